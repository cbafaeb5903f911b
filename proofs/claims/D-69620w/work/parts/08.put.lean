/-! ===== putfield; arrays ===== -/
/-- a field may be written: it isn't final, or this is its class's constructor -/
def jWr (x : jCx) (own : String) (f : Nat) : Prop := match x with
  | (p, l, e, R, s, m, args, below, meth, c, D, ac, H0) => ∀ (C : String) (T : u_T) (N : Nat), jcl[f / 100]? = some (C, T, N) → (T (f % 100)).2.2.2 = false ∨ ((T (f % 100)).2.2.2 = true ∧ meth.name = "<init>" ∧ (T (f % 100)).1 = own)
/-- a field that may be written through this link -/
def jFW (own : String) (idx f : Nat) : Prop := jok (f / 100) ∧ f % 100 < jnf (f / 100) ∧ ∀ (C : String) (T : u_T) (N : Nat), jcl[f / 100]? = some (C, T, N) →
  ((∃ ref, Cond.fieldLink own idx ref (T (f % 100)).2.1 (T (f % 100)).2.2.1 ∈ lw_all ∧ (ref = (T (f % 100)).1 ∨ Cond.sameField ref (T (f % 100)).1 (T (f % 100)).2.1 (T (f % 100)).2.2.1 ∈ lw_all)) ∨ ∃ host, Cond.fieldLinkNest own idx (T (f % 100)).1 (T (f % 100)).2.1 (T (f % 100)).2.2.1 host ∈ lw_tbl ∧ (T (f % 100)).2.2.2 = false)
theorem jtp_eq {f : Nat} {C : String} {T : u_T} {N : Nat} (hc : jcl[f / 100]? = some (C, T, N)) {ty : FieldType} (h : parseFieldDescriptor (T (f % 100)).2.2.1 = some ty) : jtp f = ty := by
  unfold jtp
  rw [hc]
  show (parseFieldDescriptor (T (f % 100)).2.2.1).getD .int = ty
  rw [h]
  rfl
section JP
variable {α : Type} {x : jCx} {own : String} {cc : ByteArray} {nL pc : Nat} {lv : List (Nat × jV)} {st : List jV} {w w' : jW} {mm : Option α} {en : α → Option (Outcome × jW)} {idx f o : Nat}
theorem j_putV (hx : jOK x own cc nL) (hf : jFW own idx f) (hw : jWr x own f)
    (hC : jC w o = f / 100) (h0 : f / 100 ≠ 0) (hd : decode cc pc = .ok (.putfield idx, 3)) {v : jV} (hn : narrow (jtp f) (jpv v) = jpv v) (hfit : fits (jtp f) (jpv v) = true)
    (hR : ∀ (D : va_G) (ac : Nat → ClassId) (H0 H H' : Heap), jRel D ac H0 w H → t_OB o (D.1 (f / 100)) (jnf (f / 100)) (D.2 (f / 100)) H' (updV (fun j => jfv w (100 * (f / 100) + j) o) (f % 100) (jpv v)) → H'.size = H.size → (∀ q, q ≠ o → H'[q]? = H[q]?) → jRel D ac H0 w' H')
    (hF : jF w' = jF w) (hS : jS w' = jS w) (k : jJ x nL (pc + 3) lv st w' mm en) : jJ x nL pc lv (v :: vR o :: st) w mm en := by
  obtain ⟨p, l, e, R, s, m, args, below, meth, c, D, ac, H0⟩ := x
  obtain ⟨hx, hb, -, -, hown, ⟨hts, htn⟩, hK⟩ := hx
  obtain ⟨⟨C, T, N, ty, hc, hin, hty, hnm⟩, hlt, hlk⟩ := hf
  intro r hr ls hl H locs cells slots hG
  obtain ⟨hRel, hlo, hce, hsl0⟩ := hG
  have hc0 : jC w o ≠ 0 := by rw [hC]; exact h0
  have ho := hRel.ne hc0
  have hOB := (t_OB_sh ho).mp (hRel.2.2.2.2.1 o hc0).2
  have hlow : H0.size ≤ o - 1 := by have := (hRel.2.2.2.2.1 o hc0).1; rw [jsh_size] at this; omega
  rw [hC] at hOB
  have hN : jnf (f / 100) = N := by unfold jnf; rw [hc]
  rw [hN] at hlt hOB
  have hap := va_apart (own := own) hts hin ty hty hnm hK hc
  obtain ⟨cell, q1, q2, q3, q4⟩ := hOB
  obtain ⟨hSl, hfc, kC, hkC, hkind⟩ := hK.1 (f / 100) _ hc
  obtain ⟨cf, kf, fi, fd, hi, hsl⟩ := hSl (f % 100) hlt
  have hd1 := hty (f % 100) hlt
  rw [jtp_eq hc hd1] at hn hfit
  have hlay := hts _ (hin _ (u_in_lay hlt))
  unfold u_lay at hlay
  have hst := (u_facts hfc hkC (u_lays hts hin hlt) hi).1
  have hend : ∀ H' : Heap, H'[o - 1]? = some (cell.setSlot fd.slot (jpv v)) → H'.size = H.size → (∀ q, q ≠ o - 1 → H'[q]? = H[q]?) → Jvm.Pilot.CCodeLayoutLaw_law_r9976_571ee0.W p l e R s m args below meth c H' (locs ++ [⟨o - 1, fd.slot⟩]) cells slots (jQ D ac H0 R s below r) (F0 m (pc + 3) ls (st.map jpv)) := by
    intro H' e1 e2 e3
    rw [hsl] at e1
    refine k r hr ls hl H' _ cells slots ⟨hR D ac (jsh H0) (jsh H) (jsh H') hRel (by rw [hN]; exact (t_OB_sh ho).mpr ⟨_, e1, q2, q3, t_set q4 hap hlt (jpv v)⟩) (by rw [jsh_size, jsh_size, e2]) (jsh_oth ho e3), fun q hq => ?_, by rw [hF]; exact hce, by rw [hS]; exact hsl0⟩
    rcases List.mem_append.mp hq with hq | hq
    · exact hlo q hq
    · rw [List.mem_singleton.mp hq]
      exact hlow
  show Jvm.Pilot.CCodeLayoutLaw_law_r9976_571ee0.W p l e R s m args below meth c H locs cells slots _ (F0 m pc ls (jpv v :: jrv o :: st.map jpv))
  rw [jrv_ne ho]
  rcases hw C T N hc with hfin | ⟨hfin, hinit, hdecl⟩
  · rw [if_neg (by rw [hfin]; decide)] at hlay
    have h6 := u_store hfc hkC hkind hlay hi hd1 hn hfit
    rcases hlk C T N hc with ⟨ref, hq, hsm⟩ | ⟨host, hq, -⟩
    · exact W.putK hx hb (f := fd) ⟨hown, hts _ hq, ⟨_, _, _, jsame hts hsm _ hi⟩, hst⟩ (by rw [q2]; exact h6) q1 q3 (by rw [hsl]; exact k2_hasslot (q4 _ hlt)) rfl rfl hd hend
    · exact va_WputK hx hb (f := fd) hown (va_Nw.use rfl (htn _ hq rfl)) hi hst (by rw [q2]; exact h6) q1 q3 (by rw [hsl]; exact k2_hasslot (q4 _ hlt)) rfl rfl hd hend
  · rw [if_pos hfin] at hlay
    have hcf : m.cls = cf := by
      obtain ⟨_, _, c', _, _, _, -, -, hf', -, -, -, hown2, -⟩ := Cond.laysFinal_spec hlay
      have e1 : c' = cf := by have := hi.symm.trans hf'; simp at this; exact this.1.symm
      rw [hdecl] at hown2
      rw [← e1]; exact Option.some.inj (hown.symm.trans hown2)
    have h6 := u_fits hfc hkC hkind (Or.inr hlay) hi hd1 hn hfit
    rcases hlk C T N hc with ⟨ref, hq, hsm⟩ | ⟨host, hq, hff⟩
    · exact W.putFinK hx hb hown (hts _ hq) (jsame hts hsm _ hi) hst hcf hinit (by rw [q2]; exact h6) q1 q3 (by rw [hsl]; exact k2_hasslot (q4 _ hlt)) rfl rfl hd hend
    · rw [hfin] at hff
      cases hff
end JP
theorem jfv_put {w w' : jW} {f o c : Nat} (hc : f / 100 = c) {v : Value} (hv : jfv w' f o = v) (hoth : ∀ f', f' ≠ f → jfv w' f' o = jfv w f' o) (j : Nat) (hj : j < 100) : updV (fun j => jfv w (100 * c + j) o) (f % 100) v j = jfv w' (100 * c + j) o := by
  have he : 100 * (f / 100) + f % 100 = f := Nat.div_add_mod f 100
  unfold updV
  by_cases h : j = f % 100
  · rw [if_pos h, h, ← hc, he, hv]
  · rw [if_neg h, hoth _ (by omega)]
theorem jnf_lt (c : Nat) : jnf c < 100 := by
  unfold jnf
  by_cases h : c < 19
  · have : ∀ c, c < 19 → (match jcl[c]? with | some q => q.2.2 | none => 0) < 100 := by decide +kernel
    exact this c h
  · have : jcl[c]? = none := by
      rw [List.getElem?_eq_none_iff]
      exact Nat.le_of_not_lt h
    rw [this]
    decide
section JQ
variable {α : Type} {x : jCx} {own : String} {cc : ByteArray} {nL pc : Nat} {lv : List (Nat × jV)} {st : List jV} {w : jW} {mm : Option α} {en : α → Option (Outcome × jW)} {idx f o : Nat}
/-- a link by which a field is written: no final field by a nest mate -/
theorem j_putI (hx : jOK x own cc nL) (hf : jFW own idx f) (hw : jWr x own f) (hk : jkd f = 0) (hC : jC w o = f / 100) (h0 : f / 100 ≠ 0) (hd : decode cc pc = .ok (.putfield idx, 3)) {v : Int32} (hn : narrow (jtp f) (.int v) = .int v) (hfit : fits (jtp f) (.int v) = true)
    (k : jJ x nL (pc + 3) lv st (sI w f o v) mm en) : jJ x nL pc lv (vI v :: vR o :: st) w mm en := by
  refine j_putV (w' := sI w f o v) hx hf hw hC h0 hd hn hfit (fun D ac H0 H H' hRel hT e2 e3 => ?_) rfl rfl k
  refine hRel.obj (w' := sI w f o v) (o := o) (by rw [hC]; exact h0) rfl rfl (fun o' ho' f' => ⟨u2_o _ _ ho', rfl, rfl⟩) rfl (fun f' o' hk' => ⟨rfl, rfl, rfl⟩) ?_ e2 e3
  rw [hC]
  refine hT.to fun j hj => jfv_put rfl ?_ ?_ j (Nat.lt_trans hj (jnf_lt _))
  · unfold jfv; rw [hk]; exact congrArg Value.int (u2_s _ _ _ _)
  · intro f' hf'; exact jfv_eq (u2_f _ _ hf') rfl rfl
theorem j_putL (hx : jOK x own cc nL) (hf : jFW own idx f) (hw : jWr x own f) (hk : jkd f = 1) (hC : jC w o = f / 100) (h0 : f / 100 ≠ 0) (hd : decode cc pc = .ok (.putfield idx, 3)) {v : Int64} (hn : narrow (jtp f) (.long v) = .long v) (hfit : fits (jtp f) (.long v) = true)
    (k : jJ x nL (pc + 3) lv st (sL w f o v) mm en) : jJ x nL pc lv (vL v :: vR o :: st) w mm en := by
  refine j_putV (w' := sL w f o v) hx hf hw hC h0 hd hn hfit (fun D ac H0 H H' hRel hT e2 e3 => ?_) rfl rfl k
  refine hRel.obj (w' := sL w f o v) (o := o) (by rw [hC]; exact h0) rfl rfl (fun o' ho' f' => ⟨rfl, u2_o _ _ ho', rfl⟩) rfl (fun f' o' hk' => ⟨rfl, rfl, rfl⟩) ?_ e2 e3
  rw [hC]
  refine hT.to fun j hj => jfv_put rfl ?_ ?_ j (Nat.lt_trans hj (jnf_lt _))
  · unfold jfv; rw [hk]; exact congrArg Value.long (u2_s _ _ _ _)
  · intro f' hf'; exact jfv_eq rfl (u2_f _ _ hf') rfl
theorem j_putR (hx : jOK x own cc nL) (hf : jFW own idx f) (hw : jWr x own f) (hk : jkd f = 2) (hC : jC w o = f / 100) (h0 : f / 100 ≠ 0) (hd : decode cc pc = .ok (.putfield idx, 3)) {v : Nat} (hn : ∀ v, narrow (jtp f) (jrv v) = jrv v) (hfit : ∀ v, fits (jtp f) (jrv v) = true)
    (k : jJ x nL (pc + 3) lv st (sR w f o v) mm en) : jJ x nL pc lv (vR v :: vR o :: st) w mm en := by
  refine j_putV (w' := sR w f o v) hx hf hw hC h0 hd (hn v) (hfit v) (fun D ac H0 H H' hRel hT e2 e3 => ?_) rfl rfl k
  refine hRel.obj (w' := sR w f o v) (o := o) (by rw [hC]; exact h0) rfl rfl (fun o' ho' f' => ⟨rfl, rfl, u2_o _ _ ho'⟩) rfl (fun f' o' hk' => ⟨u2_f _ _ (fun z => by rw [z, hk] at hk'; omega), rfl, rfl⟩) ?_ e2 e3
  rw [hC]
  refine hT.to fun j hj => jfv_put rfl ?_ ?_ j (Nat.lt_trans hj (jnf_lt _))
  · unfold jfv; rw [hk]; exact congrArg jrv (u2_s _ _ _ _)
  · intro f' hf'; exact jfv_eq rfl rfl (u2_f _ _ hf')
theorem jnr_o (C : String) (v : Nat) : narrow (.object C) (jrv v) = jrv v := by unfold jrv; split <;> rfl
theorem jnr_a (t : FieldType) (v : Nat) : narrow (.array t) (jrv v) = jrv v := by unfold jrv; split <;> rfl
theorem jft_o (C : String) (v : Nat) : fits (.object C) (jrv v) = true := by unfold jrv; split <;> rfl
theorem jft_a (t : FieldType) (v : Nat) : fits (.array t) (jrv v) = true := by unfold jrv; split <;> rfl
end JQ

/-! arrays -/
theorem jcn_i {w : jW} {f o : Nat} (hk : jkd f = 3 ∨ jkd f = 4 ∨ jkd f = 5) : jcn w f o = .inl (jA w f o) := by
  unfold jcn
  rcases hk with h | h | h <;> rw [h] <;> rfl
theorem jcn_l {w : jW} {f o : Nat} (hk : jkd f = 6) : jcn w f o = .inr (.inl (jB w f o)) := by
  unfold jcn
  rw [hk]
  rfl
theorem jcn_e {w : jW} {f o : Nat} (hk : jkd f = 7 ∨ jkd f = 8) : jcn w f o = .inr (.inr (.inr (.inr fun i => jro (jE w f o i)))) := by
  unfold jcn
  rcases hk with h | h <;> rw [h] <;> rfl
theorem jcn_same {w w' : jW} {f o : Nat} (h1 : jA w' f o = jA w f o) (h2 : jB w' f o = jB w f o) (h3 : jE w' f o = jE w f o) : jcn w' f o = jcn w f o := by
  unfold jcn
  rw [h1, h2, h3]
theorem jRel.live {D : va_G} {ac : Nat → ClassId} {H0 H : Heap} {w : jW} (h : jRel D ac H0 w H) {f o : Nat} (hk : 3 ≤ jkd f) {i : Int32} (hi : jin i (jN w f o)) : jR w f o ≠ 0 := fun z => by
  have := h.2.2.2.2.2.2.1 f o hk z
  rw [this] at hi
  exact hi (Or.inr (Nat.zero_le _))
theorem j_one {D : va_G} {H : Heap} {a : Nat} {cA : ClassId} {b : vp_A} (h : H[a]? = some (vp_cell cA b)) : va_P D jcl [(a, .inl (cA, b))] H := by
  intro k q hq
  have hk : k < 1 := (List.getElem?_eq_some_iff.mp hq).1
  have hk : k = 0 := by omega
  subst hk
  cases hq
  exact h
theorem vp_i (cA : ClassId) (n : Nat) (f : Nat → Int32) : vp_cell cA (n, .inl f) = arrV cA n (fun j => .int (f j)) := rfl
theorem vp_l (cA : ClassId) (n : Nat) (f : Nat → Int64) : vp_cell cA (n, .inr (.inl f)) = arrV cA n (fun j => .long (f j)) := rfl
theorem updV_i (f : Nat → Int32) (i : Nat) (x : Int32) : updV (fun j => Value.int (f j)) i (.int x) = fun j => .int (va_up f i x j) := by
  funext j
  unfold updV va_up
  split <;> rfl
theorem updV_l (f : Nat → Int64) (i : Nat) (x : Int64) : updV (fun j => Value.long (f j)) i (.long x) = fun j => .long (va_up f i x j) := by
  funext j
  unfold updV va_up
  split <;> rfl
section JA
variable {α : Type} {x : jCx} {own : String} {cc : ByteArray} {nL pc : Nat} {lv : List (Nat × jV)} {st : List jV} {w : jW} {mm : Option α} {en : α → Option (Outcome × jW)} {f o a : Nat} {i : Int32}
theorem j_iald (hx : jOK x own cc nL) (hk : jkd f = 3) (ha : jR w f o = a) (hd : decode cc pc = .ok (.iaload, 1)) (hi : jin i (jN w f o)) (k : jJ x nL (pc + 1) lv (vI (jA w f o (ix i)) :: st) w mm en) : jJ x nL pc lv (vI i :: vR a :: st) w mm en := by
  obtain ⟨p, l, e, R, s, m, args, below, meth, c, D, ac, H0⟩ := x
  obtain ⟨hx, hb, -, -, hown, -, hK⟩ := hx
  intro r hr ls hl H locs cells slots hG
  have hk3 : 3 ≤ jkd f := by omega
  have hne := hG.1.live hk3 hi
  obtain ⟨-, -, hcell⟩ := hG.1.2.2.2.2.2.1 f o hk3 hne
  rw [jcn_i (by rw [hk]; decide), hk, jsh_at hne] at hcell
  subst ha
  show Jvm.Pilot.CCodeLayoutLaw_law_r9976_571ee0.W p l e R s m args below meth c H locs cells slots _ (F0 m pc ls (.int i :: jrv (jR w f o) :: st.map jpv))
  rw [jrv_ne hne]
  exact va_iald hx hb hK (j_one hcell) 0 3 rfl rfl hi hd (k r hr ls hl H locs cells slots hG)
theorem j_bald (hx : jOK x own cc nL) (hk : jkd f = 4) (ha : jR w f o = a) (hd : decode cc pc = .ok (.baload, 1)) (hi : jin i (jN w f o)) (k : jJ x nL (pc + 1) lv (vI (jA w f o (ix i)) :: st) w mm en) : jJ x nL pc lv (vI i :: vR a :: st) w mm en := by
  obtain ⟨p, l, e, R, s, m, args, below, meth, c, D, ac, H0⟩ := x
  obtain ⟨hx, hb, -, -, hown, -, hK⟩ := hx
  intro r hr ls hl H locs cells slots hG
  have hk3 : 3 ≤ jkd f := by omega
  have hne := hG.1.live hk3 hi
  obtain ⟨-, -, hcell⟩ := hG.1.2.2.2.2.2.1 f o hk3 hne
  rw [jcn_i (by rw [hk]; decide), hk, jsh_at hne] at hcell
  subst ha
  show Jvm.Pilot.CCodeLayoutLaw_law_r9976_571ee0.W p l e R s m args below meth c H locs cells slots _ (F0 m pc ls (.int i :: jrv (jR w f o) :: st.map jpv))
  rw [jrv_ne hne]
  exact va_bald hx hb hK (j_one hcell) 0 4 rfl rfl hi hd (k r hr ls hl H locs cells slots hG)
theorem j_zald (hx : jOK x own cc nL) (hk : jkd f = 5) (ha : jR w f o = a) (hd : decode cc pc = .ok (.baload, 1)) (hi : jin i (jN w f o)) (k : jJ x nL (pc + 1) lv (vI (jA w f o (ix i)) :: st) w mm en) : jJ x nL pc lv (vI i :: vR a :: st) w mm en := by
  obtain ⟨p, l, e, R, s, m, args, below, meth, c, D, ac, H0⟩ := x
  obtain ⟨hx, hb, -, -, hown, -, hK⟩ := hx
  intro r hr ls hl H locs cells slots hG
  have hk3 : 3 ≤ jkd f := by omega
  have hne := hG.1.live hk3 hi
  obtain ⟨-, -, hcell⟩ := hG.1.2.2.2.2.2.1 f o hk3 hne
  rw [jcn_i (by rw [hk]; decide), hk, jsh_at hne] at hcell
  subst ha
  show Jvm.Pilot.CCodeLayoutLaw_law_r9976_571ee0.W p l e R s m args below meth c H locs cells slots _ (F0 m pc ls (.int i :: jrv (jR w f o) :: st.map jpv))
  rw [jrv_ne hne]
  exact va_zald hx hb hK (j_one hcell) 0 5 rfl rfl hi hd (k r hr ls hl H locs cells slots hG)
theorem j_lald (hx : jOK x own cc nL) (hk : jkd f = 6) (ha : jR w f o = a) (hd : decode cc pc = .ok (.laload, 1)) (hi : jin i (jN w f o)) (k : jJ x nL (pc + 1) lv (vL (jB w f o (ix i)) :: st) w mm en) : jJ x nL pc lv (vI i :: vR a :: st) w mm en := by
  obtain ⟨p, l, e, R, s, m, args, below, meth, c, D, ac, H0⟩ := x
  obtain ⟨hx, hb, -, -, hown, -, hK⟩ := hx
  intro r hr ls hl H locs cells slots hG
  have hk3 : 3 ≤ jkd f := by omega
  have hne := hG.1.live hk3 hi
  obtain ⟨-, -, hcell⟩ := hG.1.2.2.2.2.2.1 f o hk3 hne
  rw [jcn_l hk, hk, jsh_at hne] at hcell
  subst ha
  show Jvm.Pilot.CCodeLayoutLaw_law_r9976_571ee0.W p l e R s m args below meth c H locs cells slots _ (F0 m pc ls (.int i :: jrv (jR w f o) :: st.map jpv))
  rw [jrv_ne hne]
  exact va_lald hx hb hK (j_one hcell) 0 6 rfl rfl hi hd (k r hr ls hl H locs cells slots hG)
theorem j_iast (hx : jOK x own cc nL) (hk : jkd f = 3) (ha : jR w f o = a) (hd : decode cc pc = .ok (.iastore, 1)) {v : Int32} (hi : jin i (jN w f o)) (k : jJ x nL (pc + 1) lv st (sA w f o (va_up (jA w f o) (ix i) v)) mm en) : jJ x nL pc lv (vI v :: vI i :: vR a :: st) w mm en := by
  obtain ⟨p, l, e, R, s, m, args, below, meth, c, D, ac, H0⟩ := x
  obtain ⟨hx, hb, -, -, hown, -, hK⟩ := hx
  intro r hr ls hl H locs cells slots hG
  obtain ⟨hRel, hlo, hce, hsl0⟩ := hG
  have hk3 : 3 ≤ jkd f := by omega
  have hne := hRel.live hk3 hi
  obtain ⟨hlow, -, hcell⟩ := hRel.2.2.2.2.2.1 f o hk3 hne
  have hlow : H0.size ≤ jR w f o - 1 := by rw [jsh_size] at hlow; omega
  rw [jcn_i (by rw [hk]; decide), hk, vp_i, jsh_at hne] at hcell
  subst ha
  show Jvm.Pilot.CCodeLayoutLaw_law_r9976_571ee0.W p l e R s m args below meth c H locs cells slots _ (F0 m pc ls (.int v :: .int i :: jrv (jR w f o) :: st.map jpv))
  rw [jrv_ne hne]
  refine W.iast hx hb hcell ((hK.2 3 _ rfl).1 (jN w f o) (fun j => .int (jA w f o j))) (fun q => by cases q) (by rw [arrV_size]; exact hi) rfl rfl hd fun H' e1 e2 e3 => ?_
  refine k r hr ls hl H' _ cells slots ⟨hRel.arr (f := f) (o := o) (w' := sA w f o (va_up (jA w f o) (ix i) v)) hk3 hne rfl rfl rfl rfl rfl rfl (fun f' o' hs => jcn_same (u2_n _ _ hs) rfl rfl) ?_ (by rw [jsh_size, jsh_size, e2]) (jsh_oth hne e3), fun q hq => ?_, hce, hsl0⟩
  · rw [jsh_at hne, e1, jcn_i (by rw [hk]; decide), hk, vp_i, arrV_store, updV_i]
    rw [show jA (sA w f o (va_up (jA w f o) (ix i) v)) f o = _ from u2_s _ _ _ _]
  · rcases List.mem_append.mp hq with hq | hq
    · exact hlo q hq
    · rw [List.mem_singleton.mp hq]
      exact hlow
theorem j_bast (hx : jOK x own cc nL) (hk : jkd f = 4) (ha : jR w f o = a) (hd : decode cc pc = .ok (.bastore, 1)) {v : Int32} (hi : jin i (jN w f o)) (k : jJ x nL (pc + 1) lv st (sA w f o (va_up (jA w f o) (ix i) (i2b v))) mm en) : jJ x nL pc lv (vI v :: vI i :: vR a :: st) w mm en := by
  obtain ⟨p, l, e, R, s, m, args, below, meth, c, D, ac, H0⟩ := x
  obtain ⟨hx, hb, -, -, hown, -, hK⟩ := hx
  intro r hr ls hl H locs cells slots hG
  obtain ⟨hRel, hlo, hce, hsl0⟩ := hG
  have hk3 : 3 ≤ jkd f := by omega
  have hne := hRel.live hk3 hi
  obtain ⟨hlow, -, hcell⟩ := hRel.2.2.2.2.2.1 f o hk3 hne
  have hlow : H0.size ≤ jR w f o - 1 := by rw [jsh_size] at hlow; omega
  rw [jcn_i (by rw [hk]; decide), hk, vp_i, jsh_at hne] at hcell
  subst ha
  show Jvm.Pilot.CCodeLayoutLaw_law_r9976_571ee0.W p l e R s m args below meth c H locs cells slots _ (F0 m pc ls (.int v :: .int i :: jrv (jR w f o) :: st.map jpv))
  rw [jrv_ne hne]
  refine W.bast hx hb hcell ((hK.2 4 _ rfl).1 (jN w f o) (fun j => .int (jA w f o j))) (fun q => by cases q) (by rw [arrV_size]; exact hi) rfl rfl hd fun H' e1 e2 e3 => ?_
  have e1 : H'[jR w f o - 1]? = some ((arrV (ac 4) (jN w f o) (fun j => .int (jA w f o j))).setSlot i.toNatClampNeg (.int (i2b v))) := e1
  refine k r hr ls hl H' _ cells slots ⟨hRel.arr (f := f) (o := o) (w' := sA w f o (va_up (jA w f o) (ix i) (i2b v))) hk3 hne rfl rfl rfl rfl rfl rfl (fun f' o' hs => jcn_same (u2_n _ _ hs) rfl rfl) ?_ (by rw [jsh_size, jsh_size, e2]) (jsh_oth hne e3), fun q hq => ?_, hce, hsl0⟩
  · rw [jsh_at hne, e1, jcn_i (by rw [hk]; decide), hk, vp_i, arrV_store, updV_i]
    rw [show jA (sA w f o (va_up (jA w f o) (ix i) (i2b v))) f o = _ from u2_s _ _ _ _]
  · rcases List.mem_append.mp hq with hq | hq
    · exact hlo q hq
    · rw [List.mem_singleton.mp hq]
      exact hlow
theorem j_zast (hx : jOK x own cc nL) (hk : jkd f = 5) (ha : jR w f o = a) (hd : decode cc pc = .ok (.bastore, 1)) {v : Int32} (hi : jin i (jN w f o)) (k : jJ x nL (pc + 1) lv st (sA w f o (va_up (jA w f o) (ix i) (i2z v))) mm en) : jJ x nL pc lv (vI v :: vI i :: vR a :: st) w mm en := by
  obtain ⟨p, l, e, R, s, m, args, below, meth, c, D, ac, H0⟩ := x
  obtain ⟨hx, hb, -, -, hown, -, hK⟩ := hx
  intro r hr ls hl H locs cells slots hG
  obtain ⟨hRel, hlo, hce, hsl0⟩ := hG
  have hk3 : 3 ≤ jkd f := by omega
  have hne := hRel.live hk3 hi
  obtain ⟨hlow, -, hcell⟩ := hRel.2.2.2.2.2.1 f o hk3 hne
  have hlow : H0.size ≤ jR w f o - 1 := by rw [jsh_size] at hlow; omega
  rw [jcn_i (by rw [hk]; decide), hk, vp_i, jsh_at hne] at hcell
  subst ha
  show Jvm.Pilot.CCodeLayoutLaw_law_r9976_571ee0.W p l e R s m args below meth c H locs cells slots _ (F0 m pc ls (.int v :: .int i :: jrv (jR w f o) :: st.map jpv))
  rw [jrv_ne hne]
  refine W.zast hx hb hcell ((hK.2 5 _ rfl).1 (jN w f o) (fun j => .int (jA w f o j))) (fun q => by cases q) (by rw [arrV_size]; exact hi) rfl rfl hd fun H' e1 e2 e3 => ?_
  have e1 : H'[jR w f o - 1]? = some ((arrV (ac 5) (jN w f o) (fun j => .int (jA w f o j))).setSlot i.toNatClampNeg (.int (i2z v))) := e1
  refine k r hr ls hl H' _ cells slots ⟨hRel.arr (f := f) (o := o) (w' := sA w f o (va_up (jA w f o) (ix i) (i2z v))) hk3 hne rfl rfl rfl rfl rfl rfl (fun f' o' hs => jcn_same (u2_n _ _ hs) rfl rfl) ?_ (by rw [jsh_size, jsh_size, e2]) (jsh_oth hne e3), fun q hq => ?_, hce, hsl0⟩
  · rw [jsh_at hne, e1, jcn_i (by rw [hk]; decide), hk, vp_i, arrV_store, updV_i]
    rw [show jA (sA w f o (va_up (jA w f o) (ix i) (i2z v))) f o = _ from u2_s _ _ _ _]
  · rcases List.mem_append.mp hq with hq | hq
    · exact hlo q hq
    · rw [List.mem_singleton.mp hq]
      exact hlow
theorem j_last (hx : jOK x own cc nL) (hk : jkd f = 6) (ha : jR w f o = a) (hd : decode cc pc = .ok (.lastore, 1)) {v : Int64} (hi : jin i (jN w f o)) (k : jJ x nL (pc + 1) lv st (sB w f o (va_up (jB w f o) (ix i) v)) mm en) : jJ x nL pc lv (vL v :: vI i :: vR a :: st) w mm en := by
  obtain ⟨p, l, e, R, s, m, args, below, meth, c, D, ac, H0⟩ := x
  obtain ⟨hx, hb, -, -, hown, -, hK⟩ := hx
  intro r hr ls hl H locs cells slots hG
  obtain ⟨hRel, hlo, hce, hsl0⟩ := hG
  have hk3 : 3 ≤ jkd f := by omega
  have hne := hRel.live hk3 hi
  obtain ⟨hlow, -, hcell⟩ := hRel.2.2.2.2.2.1 f o hk3 hne
  have hlow : H0.size ≤ jR w f o - 1 := by rw [jsh_size] at hlow; omega
  rw [jcn_l hk, hk, vp_l, jsh_at hne] at hcell
  subst ha
  show Jvm.Pilot.CCodeLayoutLaw_law_r9976_571ee0.W p l e R s m args below meth c H locs cells slots _ (F0 m pc ls (.long v :: .int i :: jrv (jR w f o) :: st.map jpv))
  rw [jrv_ne hne]
  refine W.last hx hb hcell ((hK.2 6 _ rfl).1 (jN w f o) (fun j => .long (jB w f o j))) (fun q => by cases q) (by rw [arrV_size]; exact hi) rfl rfl hd fun H' e1 e2 e3 => ?_
  refine k r hr ls hl H' _ cells slots ⟨hRel.arr (f := f) (o := o) (w' := sB w f o (va_up (jB w f o) (ix i) v)) hk3 hne rfl rfl rfl rfl rfl rfl (fun f' o' hs => jcn_same rfl (u2_n _ _ hs) rfl) ?_ (by rw [jsh_size, jsh_size, e2]) (jsh_oth hne e3), fun q hq => ?_, hce, hsl0⟩
  · rw [jsh_at hne, e1, jcn_l hk, hk, vp_l, arrV_store, updV_l]
    rw [show jB (sB w f o (va_up (jB w f o) (ix i) v)) f o = _ from u2_s _ _ _ _]
  · rcases List.mem_append.mp hq with hq | hq
    · exact hlo q hq
    · rw [List.mem_singleton.mp hq]
      exact hlow
theorem j_alen (hx : jOK x own cc nL) (hk : 3 ≤ jkd f) (hk8 : jkd f ≤ 8) (ha : jR w f o = a) (hd : decode cc pc = .ok (.arraylength, 1)) (hne : ¬ jR w f o = 0) (k : jJ x nL (pc + 1) lv (vI (nI (jN w f o)) :: st) w mm en) : jJ x nL pc lv (vR a :: st) w mm en := by
  obtain ⟨p, l, e, R, s, m, args, below, meth, c, D, ac, H0⟩ := x
  obtain ⟨hx, hb, -, -, hown, -, hK⟩ := hx
  intro r hr ls hl H locs cells slots hG
  obtain ⟨-, -, hcell⟩ := hG.1.2.2.2.2.2.1 f o hk hne
  rw [jsh_at hne] at hcell
  subst ha
  show Jvm.Pilot.CCodeLayoutLaw_law_r9976_571ee0.W p l e R s m args below meth c H locs cells slots _ (F0 m pc ls (jrv (jR w f o) :: st.map jpv))
  rw [jrv_ne hne]
  have hk1 : jkd f = 3 ∨ jkd f = 4 ∨ jkd f = 5 ∨ jkd f = 6 ∨ jkd f = 7 ∨ jkd f = 8 := by omega
  have hkk := k r hr ls hl H locs cells slots hG
  rcases hk1 with h | h | h | h | h | h <;> rw [h] at hcell
  · exact va_alen (v := nI (jN w f o)) hx hb hK (j_one hcell) 0 3 rfl rfl rfl hd hkk
  · exact va_alen (v := nI (jN w f o)) hx hb hK (j_one hcell) 0 4 rfl rfl rfl hd hkk
  · exact va_alen (v := nI (jN w f o)) hx hb hK (j_one hcell) 0 5 rfl rfl rfl hd hkk
  · exact va_alen (v := nI (jN w f o)) hx hb hK (j_one hcell) 0 6 rfl rfl rfl hd hkk
  · exact va_alen (v := nI (jN w f o)) hx hb hK (j_one hcell) 0 7 rfl rfl rfl hd hkk
  · exact va_alen (v := nI (jN w f o)) hx hb hK (j_one hcell) 0 8 rfl rfl rfl hd hkk
end JA
