/-! ===== new objects and arrays ===== -/
def jz (f : Nat) : Value := match jkd f with
  | 0 => .int 0
  | 1 => .long 0
  | _ => .null
def jNL (own : String) (idx c : Nat) : Prop := jok c ∧ c ≠ 0 ∧ ∀ (C : String) (T : u_T) (N : Nat), jcl[c]? = some (C, T, N) → Cond.classLink own idx C ∈ lw_all ∧ Cond.instantiable C N ∈ lw_all ∧ Cond.initialized C ∈ lw_all ∧ ∀ j, j < N → defaultValue (jtp (100 * c + j)) = jz (100 * c + j)
/-- room for a cell of n slots -/
abbrev jrm (w : jW) (n : Nat) : Prop := 1 ≤ jF w ∧ n ≤ jS w
/-- .. and for an array of n -/
abbrev jra (w : jW) (n : Int32) : Prop := ¬ n < 0 ∧ ix n ≤ 60000000 ∧ 1 ≤ jF w ∧ ix n ≤ jS w
theorem jfv_z {w : jW} {f a : Nat} (h1 : jI w f a = 0) (h2 : jL w f a = 0) (h3 : jR w f a = 0) : jfv w f a = jz f := by
  unfold jfv jz
  rw [h1, h2, h3]
  rfl
theorem jRel.new {D : va_G} {ac : Nat → ClassId} {H0 H H' : Heap} {w : jW} (h : jRel D ac H0 w H) {c n : Nat} (hc : c ≠ 0) (hT : t_OB (jX w) (D.1 c) (jnf c) (D.2 c) H' (fun j => jz (100 * c + j))) (e2 : H'.size = H.size + 1) (e3 : ∀ q, q < H.size → H'[q]? = H[q]?) : jRel D ac H0 (sC (sX w n) (jX w) c) H' := by
  have hlt := fun o => h.lt (o := o)
  have hal := fun f o => h.arrLt (f := f) (o := o)
  obtain ⟨h1, h2, h3, h4, h5, h6, h7, h8, h9, h10⟩ := h
  have hcc : ∀ o, jC (sC (sX w n) (jX w) c) o = if o = jX w then c else jC w o := fun o => rfl
  refine ⟨h1, by rw [e2, h2]; rfl, by rw [e2]; omega, fun q hq => by rw [e3 q (by omega)]; exact h4 q hq, ?_, ?_, h7, h8, ?_, h10⟩
  · intro o ho
    rw [hcc] at ho ⊢
    by_cases hq : o = jX w
    · subst hq
      rw [if_pos rfl]
      refine ⟨by omega, hT.to fun j _ => ?_⟩
      obtain ⟨a1, a2, a3, -⟩ := h9 (100 * c + j) (jX w) (Nat.le_refl _)
      exact (jfv_z (w := w) a1 a2 a3).symm
    · rw [if_neg hq] at ho ⊢
      exact ⟨(h5 o ho).1, (h5 o ho).2.kept (e3 o (by rw [h2]; exact hlt o ho))⟩
  · intro f o hk hr
    obtain ⟨b1, b2, b3⟩ := h6 f o hk hr
    have hl := hal f o hk hr
    refine ⟨b1, ?_, ?_⟩
    · show (if jR w f o = jX w then c else jC w (jR w f o)) = 0
      rw [if_neg (by omega)]
      exact b2
    · show H'[jR w f o]? = _
      rw [e3 _ (by rw [h2]; exact hl)]
      exact b3
  · intro f a ha
    exact h9 f a (by have : jX w + 1 ≤ a := ha; omega)
section JN
variable {α : Type} {x : jCx} {own : String} {cc : ByteArray} {nL pc : Nat} {lv : List (Nat × jV)} {st : List jV} {w : jW} {mm : Option α} {en : α → Option (Outcome × jW)} {idx f o c : Nat}
theorem j_new (hx : jOK x own cc nL) (hf : jNL own idx c) {N : Nat} (hN : jnf c = N) (hd : decode cc pc = .ok (.new idx, 3)) (hr : jrm w N) (k : jJ x nL (pc + 3) lv (vR (jX w) :: st) (sC (sX w N) (jX w) c) mm en) : jJ x nL pc lv st w mm en := by
  obtain ⟨p, l, e, R, s, m, args, below, meth, c', D, ac, H0⟩ := x
  obtain ⟨hx, hb, -, -, hown, ⟨hts, htn⟩, hK⟩ := hx
  obtain ⟨⟨C, T, N', ty, hc, hin, hty, hnm⟩, hc0, hlk⟩ := hf
  obtain ⟨q1, q2, q3, q4⟩ := hlk C T N' hc
  intro r hr' ls hl H locs cells slots hG
  obtain ⟨hRel, hlo, hce, hsl0⟩ := hG
  have hNN : jnf c = N' := by unfold jnf; rw [hc]
  have hNe : N = N' := hN.symm.trans hNN
  subst hNe
  have hKn := hK.1 c _ hc
  refine W.newcK hx hb hown (hts _ q1) (hts _ q2) (hts _ q3) rfl hd (by have := hr.1; omega) (by have := hr.2; omega) hKn.2.1 (h := jX w - 1) (by have := hRel.2.1; rw [jsh_size] at this; omega) fun H1 kC hkC e1 z1 o1 => ?_
  have hsz : H.size + 1 = jX w := by have := hRel.2.1; rw [jsh_size] at this; exact this
  have hX : jX w ≠ 0 := by omega
  have hT : t_OB (jX w) (D.1 c) (jnf c) (D.2 c) (jsh H1) (fun j => jz (100 * c + j)) := by
    refine (t_OB_sh hX).mpr ?_
    rw [hNN]
    refine (u_born ty hts hin hKn hkC e1 hty).to fun j hj => ?_
    rw [← q4 j hj]
    have hj1 : j < 100 := by have := jnf_lt c; omega
    have hm : (100 * c + j) % 100 = j := by omega
    have hdv : (100 * c + j) / 100 = c := by omega
    rw [jtp_eq (f := 100 * c + j) (C := C) (T := T) (N := N) (by rw [hdv]; exact hc) (by rw [hm]; exact hty j hj)]
  have hRel' := hRel.new (n := N) hc0 hT (by rw [jsh_size, jsh_size, z1]; omega) (by rw [jsh_size]; exact jsh_lt (n := H.size) (fun q hq => o1 q (by omega)))
  have hk := k r hr' ls hl H1 locs (cells + 1) (slots + N) ⟨hRel', hlo, ?_, ?_⟩
  · have hk : Jvm.Pilot.CCodeLayoutLaw_law_r9976_571ee0.W p l e R s m args below meth c' H1 locs (cells + 1) (slots + N) _ (F0 m (pc + 3) ls (jrv (jX w) :: st.map jpv)) := hk
    rw [jrv_ne hX] at hk
    exact hk
  · show cells + 1 + (jF w - 1) ≤ R.cells
    have := hr.1
    omega
  · show slots + N + (jS w - N) ≤ R.slots
    have := hr.2
    omega
end JN
theorem jnf_pos {c j : Nat} (h : j < jnf c) : c < 19 := Decidable.byContradiction fun z => by
  have : jcl[c]? = none := by
    rw [List.getElem?_eq_none_iff]
    exact Nat.le_of_not_lt z
  unfold jnf at h
  rw [this] at h
  exact absurd h (Nat.not_lt_zero _)
/-- the slot that a new array gets -/
theorem jRel.newa {D : va_G} {ac : Nat → ClassId} {H0 H H' : Heap} {w w' : jW} (h : jRel D ac H0 w H) {f n : Nat} (hk : 3 ≤ jkd f) (hf : 9000 ≤ f)
    (hC : jC w' = jC w) (hI : jI w' = jI w) (hL : jL w' = jL w) (hR : jR w' = u2 (jR w) f (jX w) (jX w)) (hN : jN w' = u2 (jN w) f (jX w) n) (hX : jX w' = jX w + 1) (hoth : ∀ f' o', ¬ (f' = f ∧ o' = jX w) → jcn w' f' o' = jcn w f' o')
    (e1 : H'[jX w]? = some (vp_cell (ac (jkd f)) (n, jcn w' f (jX w)))) (e2 : H'.size = H.size + 1) (e3 : ∀ q, q < H.size → H'[q]? = H[q]?) : jRel D ac H0 w' H' := by
  have hlt := fun o => h.lt (o := o)
  have hal := fun f o => h.arrLt (f := f) (o := o)
  obtain ⟨h1, h2, h3, h4, h5, h6, h7, h8, h9, h10⟩ := h
  have hc0 : jC w (jX w) = 0 := Decidable.byContradiction fun z => by have := hlt _ z; omega
  have hRo : ∀ f' o', ¬ (f' = f ∧ o' = jX w) → jR w' f' o' = jR w f' o' := fun f' o' hn => by rw [hR]; exact u2_n _ _ hn
  have hRs : jR w' f (jX w) = jX w := by rw [hR]; exact u2_s _ _ _ _
  have hNo : ∀ f' o', ¬ (f' = f ∧ o' = jX w) → jN w' f' o' = jN w f' o' := fun f' o' hn => by rw [hN]; exact u2_n _ _ hn
  have hNs : jN w' f (jX w) = n := by rw [hN]; exact u2_s _ _ _ _
  refine ⟨h1, by rw [e2, h2, hX], by rw [e2]; omega, fun q hq => by rw [e3 q (by omega)]; exact h4 q hq, ?_, ?_, ?_, ?_, ?_, fun f' => by rw [hRo f' 0 (fun z => by omega)]; exact h10 f'⟩
  · intro o ho
    rw [hC] at ho ⊢
    refine ⟨(h5 o ho).1, ((h5 o ho).2.kept (e3 o (by rw [h2]; exact hlt o ho))).to fun j hj => ?_⟩
    have hj1 : j < 100 := Nat.lt_trans hj (jnf_lt _)
    have := jnf_pos hj
    exact (jfv_eq (by rw [hI]) (by rw [hL]) (hRo _ _ (fun z => by omega))).symm
  · intro f' o' hk' hr'
    by_cases hs : f' = f ∧ o' = jX w
    · obtain ⟨rfl, rfl⟩ := hs
      rw [hRs, hC, hNs]
      exact ⟨by omega, hc0, e1⟩
    · rw [hRo _ _ hs] at hr' ⊢
      rw [hC, hNo _ _ hs, hoth _ _ hs]
      obtain ⟨b1, b2, b3⟩ := h6 f' o' hk' hr'
      exact ⟨b1, b2, by rw [e3 _ (by rw [h2]; exact hal f' o' hk' hr')]; exact b3⟩
  · intro f' o' hk' hr'
    by_cases hs : f' = f ∧ o' = jX w
    · obtain ⟨rfl, rfl⟩ := hs
      rw [hRs] at hr'
      omega
    · rw [hRo _ _ hs] at hr'
      rw [hNo _ _ hs]
      exact h7 f' o' hk' hr'
  · intro f' o' f2 o2 hk' hk2 hr' he
    by_cases hs : f' = f ∧ o' = jX w
    · by_cases hs2 : f2 = f ∧ o2 = jX w
      · exact ⟨hs.1.trans hs2.1.symm, hs.2.trans hs2.2.symm⟩
      · obtain ⟨rfl, rfl⟩ := hs
        rw [hRs, hRo _ _ hs2] at he
        rw [hRs] at hr'
        have := hal f2 o2 hk2 (by rw [← he]; exact hr')
        omega
    · rw [hRo _ _ hs] at hr' he
      by_cases hs2 : f2 = f ∧ o2 = jX w
      · obtain ⟨rfl, rfl⟩ := hs2
        rw [hRs] at he
        have := hal f' o' hk' hr'
        omega
      · rw [hRo _ _ hs2] at he
        exact h8 f' o' f2 o2 hk' hk2 hr' he
  · intro f' a ha
    rw [hX] at ha
    rw [hI, hL, hRo _ _ (fun z => by omega), hNo _ _ (fun z => by omega)]
    exact h9 f' a (by omega)
/-- a new array that goes into the field f of o at once -/
theorem jRel.newf {D : va_G} {ac : Nat → ClassId} {H0 H H' : Heap} {w w' : jW} (h : jRel D ac H0 w H) {f o n : Nat} (hk : 3 ≤ jkd f) (hc : jC w o = f / 100) (h0 : f / 100 ≠ 0)
    (hC : jC w' = jC w) (hI : jI w' = jI w) (hL : jL w' = jL w) (hR : jR w' = u2 (jR w) f o (jX w)) (hN : jN w' = u2 (jN w) f o n) (hX : jX w' = jX w + 1) (hoth : ∀ f' o', ¬ (f' = f ∧ o' = o) → jcn w' f' o' = jcn w f' o')
    (hT : t_OB o (D.1 (f / 100)) (jnf (f / 100)) (D.2 (f / 100)) H' (updV (fun j => jfv w (100 * (f / 100) + j) o) (f % 100) (.ref (jX w - 1))))
    (e1 : H'[jX w]? = some (vp_cell (ac (jkd f)) (n, jcn w' f o))) (e2 : H'.size = H.size + 1) (e3 : ∀ q, q < H.size → q ≠ o → H'[q]? = H[q]?) : jRel D ac H0 w' H' := by
  have hlt := fun o => h.lt (o := o)
  have hal := fun f o => h.arrLt (f := f) (o := o)
  obtain ⟨h1, h2, h3, h4, h5, h6, h7, h8, h9, h10⟩ := h
  have hco : jC w o ≠ 0 := by rw [hc]; exact h0
  have hlow := (h5 o hco).1
  have hox := hlt o hco
  have hc0 : jC w (jX w) = 0 := Decidable.byContradiction fun z => by have := hlt _ z; omega
  have hRo : ∀ f' o', ¬ (f' = f ∧ o' = o) → jR w' f' o' = jR w f' o' := fun f' o' hn => by rw [hR]; exact u2_n _ _ hn
  have hRs : jR w' f o = jX w := by rw [hR]; exact u2_s _ _ _ _
  have hNo : ∀ f' o', ¬ (f' = f ∧ o' = o) → jN w' f' o' = jN w f' o' := fun f' o' hn => by rw [hN]; exact u2_n _ _ hn
  have hNs : jN w' f o = n := by rw [hN]; exact u2_s _ _ _ _
  refine ⟨h1, by rw [e2, h2, hX], by rw [e2]; omega, fun q hq => by rw [e3 q (by omega) (by omega)]; exact h4 q hq, ?_, ?_, ?_, ?_, ?_, fun f' => by rw [hRo f' 0 (fun z => by omega)]; exact h10 f'⟩
  · intro o' ho
    rw [hC] at ho ⊢
    by_cases hq : o' = o
    · subst hq
      refine ⟨hlow, ?_⟩
      rw [hc]
      refine hT.to fun j hj => jfv_put rfl ?_ ?_ j (Nat.lt_trans hj (jnf_lt _))
      · unfold jfv
        rw [hRs, jrv_ne (by omega)]
        split <;> first | omega | rfl
      · intro f' hf'
        exact jfv_eq (by rw [hI]) (by rw [hL]) (hRo _ _ (fun z => hf' z.1))
    · refine ⟨(h5 o' ho).1, ((h5 o' ho).2.kept (e3 o' (by rw [h2]; exact hlt o' ho) hq)).to fun j hj => ?_⟩
      exact (jfv_eq (by rw [hI]) (by rw [hL]) (hRo _ _ (fun z => hq z.2))).symm
  · intro f' o' hk' hr'
    by_cases hs : f' = f ∧ o' = o
    · obtain ⟨rfl, rfl⟩ := hs
      rw [hRs, hC, hNs]
      exact ⟨by omega, hc0, e1⟩
    · rw [hRo _ _ hs] at hr' ⊢
      rw [hC, hNo _ _ hs, hoth _ _ hs]
      obtain ⟨b1, b2, b3⟩ := h6 f' o' hk' hr'
      exact ⟨b1, b2, by rw [e3 _ (by rw [h2]; exact hal f' o' hk' hr') (fun z => by rw [z] at b2; exact hco b2)]; exact b3⟩
  · intro f' o' hk' hr'
    by_cases hs : f' = f ∧ o' = o
    · obtain ⟨rfl, rfl⟩ := hs
      rw [hRs] at hr'
      omega
    · rw [hRo _ _ hs] at hr'
      rw [hNo _ _ hs]
      exact h7 f' o' hk' hr'
  · intro f' o' f2 o2 hk' hk2 hr' he
    by_cases hs : f' = f ∧ o' = o
    · by_cases hs2 : f2 = f ∧ o2 = o
      · exact ⟨hs.1.trans hs2.1.symm, hs.2.trans hs2.2.symm⟩
      · obtain ⟨rfl, rfl⟩ := hs
        rw [hRs, hRo _ _ hs2] at he
        rw [hRs] at hr'
        have := hal f2 o2 hk2 (by rw [← he]; exact hr')
        omega
    · rw [hRo _ _ hs] at hr' he
      by_cases hs2 : f2 = f ∧ o2 = o
      · obtain ⟨rfl, rfl⟩ := hs2
        rw [hRs] at he
        have := hal f' o' hk' hr'
        omega
      · rw [hRo _ _ hs2] at he
        exact h8 f' o' f2 o2 hk' hk2 hr' he
  · intro f' a ha
    rw [hX] at ha
    rw [hI, hL, hRo _ _ (fun z => by omega), hNo _ _ (fun z => by omega)]
    exact h9 f' a (by omega)

/-- putfield, by the machine alone -/
theorem jput {p : Program} {l : Launch} {e : Env} {R : Room} {s : State} {m : MethodId} {args : Array Value} {below : List Frame} {meth : Method} {c : Code} {D : va_G} {ac : Nat → ClassId} {H0 : Heap} {own : String} {cc : ByteArray} {nL pc idx f o : Nat} {H : Heap} {locs : List Loc} {cells slots : Nat} {Q : State → Prop} {ls : Array Slot} {rest : List Value} {V : Nat → Value}
    (hx : jOK (p, l, e, R, s, m, args, below, meth, c, D, ac, H0) own cc nL) (hf : jFW own idx f) (hw : jWr (p, l, e, R, s, m, args, below, meth, c, D, ac, H0) own f) (hOB : t_OB o (D.1 (f / 100)) (jnf (f / 100)) (D.2 (f / 100)) H V) (hd : decode cc pc = .ok (.putfield idx, 3)) {v : Value} (hn : narrow (jtp f) v = v) (hfit : fits (jtp f) v = true)
    (kk : ∀ (H' : Heap) (sl : Nat), t_OB o (D.1 (f / 100)) (jnf (f / 100)) (D.2 (f / 100)) H' (updV V (f % 100) v) → H'.size = H.size → (∀ q, q ≠ o → H'[q]? = H[q]?) → W p l e R s m args below meth c H' (locs ++ [⟨o, sl⟩]) cells slots Q (F0 m (pc + 3) ls rest)) :
    W p l e R s m args below meth c H locs cells slots Q (F0 m pc ls (v :: .ref o :: rest)) := by
  obtain ⟨hx, hb, -, -, hown, ⟨hts, htn⟩, hK⟩ := hx
  obtain ⟨⟨C, T, N, ty, hc, hin, hty, hnm⟩, hlt, hlk⟩ := hf
  have hN : jnf (f / 100) = N := by unfold jnf; rw [hc]
  rw [hN] at hlt hOB
  have hap := va_apart (own := own) hts hin ty hty hnm hK hc
  obtain ⟨cell, q1, q2, q3, q4⟩ := hOB
  obtain ⟨hSl, hfc, kC, hkC, hkind⟩ := hK.1 (f / 100) _ hc
  obtain ⟨cf, kf, fi, fd, hi, hsl⟩ := hSl (f % 100) hlt
  have hd1 := hty (f % 100) hlt
  rw [jtp_eq hc hd1] at hn hfit
  have hlay := hts _ (hin _ (u_in_lay hlt))
  unfold u_lay at hlay
  have hst := (u_facts hfc hkC (u_lays hts hin hlt) hi).1
  have hend : ∀ H' : Heap, H'[o]? = some (cell.setSlot fd.slot v) → H'.size = H.size → (∀ q, q ≠ o → H'[q]? = H[q]?) → W p l e R s m args below meth c H' (locs ++ [⟨o, fd.slot⟩]) cells slots Q (F0 m (pc + 3) ls rest) := by
    intro H' e1 e2 e3
    rw [hsl] at e1
    exact kk H' _ (by rw [hN]; exact ⟨_, e1, q2, q3, t_set q4 hap hlt v⟩) e2 e3
  rcases hw C T N hc with hfin | ⟨hfin, hinit, hdecl⟩
  · rw [if_neg (by rw [hfin]; decide)] at hlay
    have h6 := u_store hfc hkC hkind hlay hi hd1 hn hfit
    rcases hlk C T N hc with ⟨ref, hq, hsm⟩ | ⟨host, hq, hff⟩
    · exact W.putK hx hb (f := fd) ⟨hown, hts _ hq, ⟨_, _, _, jsame hts hsm _ hi⟩, hst⟩ (by rw [q2]; exact h6) q1 q3 (by rw [hsl]; exact k2_hasslot (q4 _ hlt)) rfl rfl hd hend
    · exact va_WputK hx hb (f := fd) hown (va_Nw.use rfl (htn _ hq rfl)) hi hst (by rw [q2]; exact h6) q1 q3 (by rw [hsl]; exact k2_hasslot (q4 _ hlt)) rfl rfl hd hend
  · rw [if_pos hfin] at hlay
    have hcf : m.cls = cf := by
      obtain ⟨_, _, c', _, _, _, -, -, hf', -, -, -, hown2, -⟩ := Cond.laysFinal_spec hlay
      have e1 : c' = cf := by have := hi.symm.trans hf'; simp at this; exact this.1.symm
      rw [hdecl] at hown2
      rw [← e1]; exact Option.some.inj (hown.symm.trans hown2)
    have h6 := u_fits hfc hkC hkind (Or.inr hlay) hi hd1 hn hfit
    rcases hlk C T N hc with ⟨ref, hq, hsm⟩ | ⟨host, hq, hff⟩
    · exact W.putFinK hx hb hown (hts _ hq) (jsame hts hsm _ hi) hst hcf hinit (by rw [q2]; exact h6) q1 q3 (by rw [hsl]; exact k2_hasslot (q4 _ hlt)) rfl rfl hd hend
    · rw [hfin] at hff
      cases hff
def nwA (w : jW) (f o n : Nat) : jW := sX (sA (sN (sR w f o (jX w)) f o n) f o (fun _ => 0)) n
def nwB (w : jW) (f o n : Nat) : jW := sX (sB (sN (sR w f o (jX w)) f o n) f o (fun _ => 0)) n
/-- the arrays' kinds: their type in the instruction, their element's type -/
def jat (k : Nat) (at_ : ArrayType) : Prop := Cond.arrayClass (newarray.typeOf at_) ∈ lw_all ∧ componentBytes (newarray.typeOf at_) ≤ 8 ∧ ((k = 3 ∧ newarray.typeOf at_ = .int) ∨ (k = 4 ∧ newarray.typeOf at_ = .byte) ∨ (k = 5 ∧ newarray.typeOf at_ = .boolean) ∨ (k = 6 ∧ newarray.typeOf at_ = .long))
section JM
variable {α : Type} {x : jCx} {own : String} {cc : ByteArray} {nL pc : Nat} {lv : List (Nat × jV)} {st : List jV} {w : jW} {mm : Option α} {en : α → Option (Outcome × jW)} {idx f o : Nat} {at_ : ArrayType} {n : Int32}
theorem j_newA (hx : jOK x own cc nL) (hf : 9000 ≤ f) (hk : jkd f = 3 ∨ jkd f = 4 ∨ jkd f = 5) (ha : jat (jkd f) at_) (hd : decode cc pc = .ok (.newarray at_, 2)) (hr : jra w n) (k : jJ x nL (pc + 2) lv (vR (jX w) :: st) (nwA w f (jX w) (ix n)) mm en) : jJ x nL pc lv (vI n :: st) w mm en := by
  obtain ⟨p, l, e, R, s, m, args, below, meth, c', D, ac, H0⟩ := x
  obtain ⟨hx, hb, -, -, hown, ⟨hts, htn⟩, hK⟩ := hx
  intro r hr' ls hl H locs cells slots hG
  obtain ⟨hRel, hlo, hce, hsl0⟩ := hG
  obtain ⟨r1, r2, r3, r4⟩ := hr
  refine va_newaK hx hb (hts _ ha.1) rfl hd rfl r1 rfl (Nat.le_trans (Nat.mul_le_mul r2 ha.2.1) (by decide)) (by omega) (Nat.le_trans (Nat.add_le_add_left r4 _) hsl0) (h := jX w - 1) (by have := hRel.2.1; rw [jsh_size] at this; omega) fun H1 cA e1 z1 o1 hAr hNm => ?_
  have hsz : H.size + 1 = jX w := by have := hRel.2.1; rw [jsh_size] at this; exact this
  have hX : jX w ≠ 0 := by omega
  have hcell : H1[jX w - 1]? = some (vp_cell (ac (jkd f)) (ix n, .inl (fun _ => 0))) := by
    rcases ha.2.2 with ⟨h, ht⟩ | ⟨h, ht⟩ | ⟨h, ht⟩ | ⟨h, ht⟩
    · rw [ht] at e1 hNm
      rw [e1, h, show ac 3 = cA from Option.some.inj (((hK.2 3 _ rfl).2 : s.vm.findClass _ = some (ac 3)).symm.trans hNm)]
      rfl
    · rw [ht] at e1 hNm
      rw [e1, h, show ac 4 = cA from Option.some.inj (((hK.2 4 _ rfl).2 : s.vm.findClass _ = some (ac 4)).symm.trans hNm)]
      rfl
    · rw [ht] at e1 hNm
      rw [e1, h, show ac 5 = cA from Option.some.inj (((hK.2 5 _ rfl).2 : s.vm.findClass _ = some (ac 5)).symm.trans hNm)]
      rfl
    · omega
  have hRel' : jRel D ac (jsh H0) (nwA w f (jX w) (ix n)) (jsh H1) := by
    refine hRel.newa (f := f) (n := ix n) (by omega) hf rfl rfl rfl rfl rfl rfl (fun f' o' hs => jcn_same (u2_n _ _ hs) rfl rfl) ?_ (by rw [jsh_size, jsh_size, z1]; omega) (by rw [jsh_size]; exact jsh_lt (n := H.size) (fun q hq => o1 q (by omega)))
    rw [jsh_at hX, hcell, jcn_i hk]
    exact congrArg (fun z => some (vp_cell (ac (jkd f)) (ix n, Sum.inl z))) (u2_s _ _ _ _).symm
  have hk := k r hr' ls hl H1 locs (cells + 1) (slots + ix n) ⟨hRel', hlo, ?_, ?_⟩
  · have hk : Jvm.Pilot.CCodeLayoutLaw_law_r9976_571ee0.W p l e R s m args below meth c' H1 locs (cells + 1) (slots + ix n) _ (F0 m (pc + 2) ls (jrv (jX w) :: st.map jpv)) := hk
    rw [jrv_ne hX] at hk
    exact hk
  · show cells + 1 + (jF w - 1) ≤ R.cells
    omega
  · show slots + ix n + (jS w - ix n) ≤ R.slots
    omega
end JM
