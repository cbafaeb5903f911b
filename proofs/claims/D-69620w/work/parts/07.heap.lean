/-! ===== fields and arrays ===== -/
abbrev jin (i : Int32) (n : Nat) : Prop := ¬ (i < 0 ∨ n ≤ i.toNatClampNeg)
abbrev ix (i : Int32) : Nat := i.toNatClampNeg
def i2z (x : Int32) : Int32 := vp_nar .boolean x
/-- a link to a field from the class own -/
theorem jsame {ref C n d : String} {a : Array Value} {s : State} (hts : ∀ w ∈ lw_all, w.before a s = true) (h : ref = C ∨ Cond.sameField ref C n d ∈ lw_all) (x : ClassId × Class × Nat × Field) (hi : s.fieldFound? C n d = some x) : s.fieldFound? ref n d = some x := by
  rcases h with rfl | h
  · exact hi
  · exact u_same (hts _ h) x hi
def jFL (own : String) (idx f : Nat) : Prop := jok (f / 100) ∧ f % 100 < jnf (f / 100) ∧ ∀ (C : String) (T : u_T) (N : Nat), jcl[f / 100]? = some (C, T, N) →
  ((∃ ref, Cond.fieldLink own idx ref (T (f % 100)).2.1 (T (f % 100)).2.2.1 ∈ lw_all ∧ (ref = (T (f % 100)).1 ∨ Cond.sameField ref (T (f % 100)).1 (T (f % 100)).2.1 (T (f % 100)).2.2.1 ∈ lw_all)) ∨ ∃ host, Cond.fieldLinkNest own idx (T (f % 100)).1 (T (f % 100)).2.1 (T (f % 100)).2.2.1 host ∈ lw_tbl)
theorem jRel.ne {D : va_G} {ac : Nat → ClassId} {H0 H : Heap} {w : jW} (h : jRel D ac H0 w H) {o : Nat} (hc : jC w o ≠ 0) : o ≠ 0 := fun z => by
  have h1 := (h.2.2.2.2.1 o hc).1
  have h2 := h.1
  omega
theorem jRel.arrOff {D : va_G} {ac : Nat → ClassId} {H0 H : Heap} {w : jW} (h : jRel D ac H0 w H) {f o a : Nat} (hk : 3 ≤ jkd f) (hr : jR w f o ≠ 0) (hc : jC w a ≠ 0) : jR w f o ≠ a := fun z => by
  have h1 := (h.2.2.2.2.2.1 f o hk hr).2.1
  rw [z] at h1
  exact hc h1
theorem jRel.lt {D : va_G} {ac : Nat → ClassId} {H0 H : Heap} {w : jW} (h : jRel D ac H0 w H) {o : Nat} (hc : jC w o ≠ 0) : o < jX w := by
  obtain ⟨-, cell, q1, -⟩ := h.2.2.2.2.1 o hc
  rw [← h.2.1]
  exact (Array.getElem?_eq_some_iff.mp q1).1
theorem jRel.arrLt {D : va_G} {ac : Nat → ClassId} {H0 H : Heap} {w : jW} (h : jRel D ac H0 w H) {f o : Nat} (hk : 3 ≤ jkd f) (hr : jR w f o ≠ 0) : jR w f o < jX w := by
  rw [← h.2.1]
  exact (Array.getElem?_eq_some_iff.mp (h.2.2.2.2.2.1 f o hk hr).2.2).1
theorem jfv_eq {w w' : jW} {f o : Nat} (h1 : jI w' f o = jI w f o) (h2 : jL w' f o = jL w f o) (h3 : jR w' f o = jR w f o) : jfv w' f o = jfv w f o := by
  unfold jfv
  rw [h1, h2, h3]
/-- a field of an object is written -/
theorem jRel.obj {D : va_G} {ac : Nat → ClassId} {H0 H H' : Heap} {w w' : jW} (h : jRel D ac H0 w H) {o : Nat} (hc : jC w o ≠ 0) (hC : jC w' = jC w) (hX : jX w' = jX w)
    (hoth : ∀ o', o' ≠ o → ∀ f, jI w' f o' = jI w f o' ∧ jL w' f o' = jL w f o' ∧ jR w' f o' = jR w f o')
    (hN : jN w' = jN w) (harr : ∀ f o', 3 ≤ jkd f → jR w' f o' = jR w f o' ∧ jN w' f o' = jN w f o' ∧ jcn w' f o' = jcn w f o')
    (hT : t_OB o (D.1 (jC w o)) (jnf (jC w o)) (D.2 (jC w o)) H' (fun j => jfv w' (100 * jC w o + j) o)) (e2 : H'.size = H.size) (e3 : ∀ q, q ≠ o → H'[q]? = H[q]?) : jRel D ac H0 w' H' := by
  have hlt := h.lt hc
  obtain ⟨h1, h2, h3, h4, h5, h6, h7, h8, h9, h10⟩ := h
  have hlow := (h5 o hc).1
  refine ⟨h1, by rw [e2, h2, hX], by rw [e2]; exact h3, fun q hq => by rw [e3 q (by omega)]; exact h4 q hq, ?_, ?_, ?_, ?_, ?_, fun f => by rw [(hoth 0 (by omega) f).2.2]; exact h10 f⟩
  · intro o' hc'
    rw [hC] at hc' ⊢
    by_cases ho : o' = o
    · subst ho
      exact ⟨hlow, hT⟩
    · refine ⟨(h5 o' hc').1, ((h5 o' hc').2.kept (e3 o' ho)).to fun k _ => ?_⟩
      obtain ⟨a1, a2, a3⟩ := hoth o' ho (100 * jC w o' + k)
      exact (jfv_eq a1 a2 a3).symm
  · intro f o' hk hr
    obtain ⟨a1, a2, a3⟩ := harr f o' hk
    rw [a1] at hr ⊢
    rw [a2, a3, hC]
    obtain ⟨b1, b2, b3⟩ := h6 f o' hk hr
    refine ⟨b1, b2, ?_⟩
    rw [e3 _ (fun z => by rw [z] at b2; exact hc b2)]
    exact b3
  · intro f o' hk hr
    obtain ⟨a1, a2, -⟩ := harr f o' hk
    rw [a1] at hr
    rw [a2]
    exact h7 f o' hk hr
  · intro f o' f' o'' hk hk' hr he
    rw [(harr f o' hk).1] at hr he
    rw [(harr f' o'' hk').1] at he
    exact h8 f o' f' o'' hk hk' hr he
  · intro f a ha
    rw [hX] at ha
    obtain ⟨b1, b2, b3⟩ := hoth a (by omega) f
    rw [b1, b2, b3, hN]
    exact h9 f a ha
/-- an array's contents are written -/
theorem jRel.arr {D : va_G} {ac : Nat → ClassId} {H0 H H' : Heap} {w w' : jW} (h : jRel D ac H0 w H) {f o : Nat} (hk : 3 ≤ jkd f) (hr : jR w f o ≠ 0) (hC : jC w' = jC w) (hI : jI w' = jI w) (hL : jL w' = jL w) (hR : jR w' = jR w) (hN : jN w' = jN w) (hX : jX w' = jX w)
    (hoth : ∀ f' o', ¬ (f' = f ∧ o' = o) → jcn w' f' o' = jcn w f' o') (e1 : H'[jR w f o]? = some (vp_cell (ac (jkd f)) (jN w f o, jcn w' f o))) (e2 : H'.size = H.size) (e3 : ∀ q, q ≠ jR w f o → H'[q]? = H[q]?) : jRel D ac H0 w' H' := by
  obtain ⟨h1, h2, h3, h4, h5, h6, h7, h8, h9, h10⟩ := h
  have hlow := (h6 f o hk hr).1
  refine ⟨h1, by rw [e2, h2, hX], by rw [e2]; exact h3, fun q hq => by rw [e3 q (by omega)]; exact h4 q hq, ?_, ?_, ?_, ?_, by rw [hI, hL, hR, hN, hX]; exact h9, by rw [hR]; exact h10⟩
  · intro o' hc'
    rw [hC] at hc' ⊢
    refine ⟨(h5 o' hc').1, ((h5 o' hc').2.kept (e3 o' (fun z => ?_))).to fun k _ => ?_⟩
    · have := (h6 f o hk hr).2.1
      rw [← z] at this
      exact hc' this
    · exact (jfv_eq (by rw [hI]) (by rw [hL]) (by rw [hR])).symm
  · intro f' o' hk' hr'
    rw [hR] at hr' ⊢
    rw [hN, hC]
    obtain ⟨b1, b2, b3⟩ := h6 f' o' hk' hr'
    refine ⟨b1, b2, ?_⟩
    by_cases hs : f' = f ∧ o' = o
    · obtain ⟨rfl, rfl⟩ := hs
      exact e1
    · rw [hoth f' o' hs, e3 _ (fun z => hs (h8 f' o' f o hk' hk hr' z))]
      exact b3
  · intro f' o' hk' hr'
    rw [hR] at hr'
    rw [hN]
    exact h7 f' o' hk' hr'
  · intro f' o' f2 o2 hk' hk2 hr' he
    rw [hR] at hr' he
    exact h8 f' o' f2 o2 hk' hk2 hr' he
section JH
variable {α : Type} {x : jCx} {own : String} {cc : ByteArray} {nL pc : Nat} {lv : List (Nat × jV)} {st : List jV} {w : jW} {mm : Option α} {en : α → Option (Outcome × jW)} {idx f o : Nat}
theorem j_getV (hx : jOK x own cc nL) (hf : jFL own idx f) (hC : jC w o = f / 100) (h0 : f / 100 ≠ 0) (hd : decode cc pc = .ok (.getfield idx, 3)) {v : jV} (hv : jpv v = jfv w f o) (k : jJ x nL (pc + 3) lv (v :: st) w mm en) : jJ x nL pc lv (vR o :: st) w mm en := by
  obtain ⟨p, l, e, R, s, m, args, below, meth, c, D, ac, H0⟩ := x
  obtain ⟨hx, hb, -, -, hown, ⟨hts, htn⟩, hK⟩ := hx
  obtain ⟨⟨C, T, N, ty, hc, hin, hty, hnm⟩, hlt, hlk⟩ := hf
  intro r hr ls hl H locs cells slots hG
  have hRel := hG.1
  have hc0 : jC w o ≠ 0 := by rw [hC]; exact h0
  have ho := hRel.ne hc0
  have hOB := (t_OB_sh ho).mp (hRel.2.2.2.2.1 o hc0).2
  rw [hC] at hOB
  have hN : jnf (f / 100) = N := by unfold jnf; rw [hc]
  rw [hN] at hlt
  have he : 100 * (f / 100) + f % 100 = f := Nat.div_add_mod f 100
  have hP : va_P D jcl [(o - 1, .inr (f / 100, (List.range N).map fun j => jfv w (100 * (f / 100) + j) o))] H := by
    intro k q hq
    have hk : k < 1 := (List.getElem?_eq_some_iff.mp hq).1
    have hk : k = 0 := by omega
    subst hk
    cases hq
    refine ⟨(C, T, N), hc, t_OB.to (V := fun j => jfv w (100 * (f / 100) + j) o) (by rw [← hN]; exact hOB) fun j hj => ?_⟩
    simp [vp_V, hj]
  have hkk := k r hr ls hl H locs cells slots hG
  have hvv : ((List.range N).map fun j => jfv w (100 * (f / 100) + j) o)[f % 100]? = some (jpv v) := by simp [hlt, he, hv]
  show Jvm.Pilot.CCodeLayoutLaw_law_r9976_571ee0.W p l e R s m args below meth c H locs cells slots _ (F0 m pc ls (jrv o :: st.map jpv))
  rw [jrv_ne ho]
  rcases hlk C T N hc with ⟨ref, hq, hsm⟩ | ⟨host, hq⟩
  · exact va_get hx hb hts hin hown hK hP 0 rfl hc (f % 100) hlt (hts _ hq) (jsame hts hsm) hvv hd hkk
  · exact va_getN hx hb hts hin hown hK hP 0 rfl hc (f % 100) hlt (va_Nw.use rfl (htn _ hq rfl)) (fun _ h9 => h9) hvv hd hkk
theorem j_getI (hx : jOK x own cc nL) (hf : jFL own idx f) (hk : jkd f = 0) (hC : jC w o = f / 100) (h0 : f / 100 ≠ 0) (hd : decode cc pc = .ok (.getfield idx, 3)) (k : jJ x nL (pc + 3) lv (vI (jI w f o) :: st) w mm en) : jJ x nL pc lv (vR o :: st) w mm en :=
  j_getV hx hf hC h0 hd (by unfold jfv; rw [hk]; rfl) k
theorem j_getL (hx : jOK x own cc nL) (hf : jFL own idx f) (hk : jkd f = 1) (hC : jC w o = f / 100) (h0 : f / 100 ≠ 0) (hd : decode cc pc = .ok (.getfield idx, 3)) (k : jJ x nL (pc + 3) lv (vL (jL w f o) :: st) w mm en) : jJ x nL pc lv (vR o :: st) w mm en :=
  j_getV hx hf hC h0 hd (by unfold jfv; rw [hk]; rfl) k
theorem j_getR (hx : jOK x own cc nL) (hf : jFL own idx f) (hk : 2 ≤ jkd f) (hC : jC w o = f / 100) (h0 : f / 100 ≠ 0) (hd : decode cc pc = .ok (.getfield idx, 3)) (k : jJ x nL (pc + 3) lv (vR (jR w f o) :: st) w mm en) : jJ x nL pc lv (vR o :: st) w mm en :=
  j_getV hx hf hC h0 hd (by unfold jfv; split <;> first | omega | rfl) k
end JH
