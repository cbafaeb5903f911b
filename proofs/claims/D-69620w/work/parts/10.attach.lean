/-! ===== a new array put into a field at once; attaching a free array ===== -/
section JO
variable {α : Type} {x : jCx} {own : String} {cc : ByteArray} {nL pc : Nat} {lv : List (Nat × jV)} {st : List jV} {w : jW} {mm : Option α} {en : α → Option (Outcome × jW)} {idx f o : Nat} {at_ : ArrayType} {n : Int32}
theorem j_nwA (hx : jOK x own cc nL) (hf : jFW own idx f) (hw : jWr x own f) (hk : jkd f = 3 ∨ jkd f = 4 ∨ jkd f = 5) (ha : jat (jkd f) at_) (hC : jC w o = f / 100) (h0 : f / 100 ≠ 0) (hn : ∀ v, narrow (jtp f) (jrv v) = jrv v) (hfit : ∀ v, fits (jtp f) (jrv v) = true) (hd : decode cc pc = .ok (.newarray at_, 2)) (hd2 : decode cc (pc + 2) = .ok (.putfield idx, 3)) (hr : jra w n)
    (k : jJ x nL (pc + 2 + 3) lv st (nwA w f o (ix n)) mm en) : jJ x nL pc lv (vI n :: vR o :: st) w mm en := by
  obtain ⟨p, l, e, R, s, m, args, below, meth, c', D, ac, H0⟩ := x
  have hxx := hx
  obtain ⟨hx, hb, -, -, hown, ⟨hts, htn⟩, hK⟩ := hx
  intro r hr' ls hl H locs cells slots hG
  obtain ⟨hRel, hlo, hce, hsl0⟩ := hG
  obtain ⟨r1, r2, r3, r4⟩ := hr
  have hc0 : jC w o ≠ 0 := by rw [hC]; exact h0
  have ho := hRel.ne hc0
  have hox := hRel.lt hc0
  have hOB := (t_OB_sh ho).mp (hRel.2.2.2.2.1 o hc0).2
  have hlow : H0.size ≤ o - 1 := by have := (hRel.2.2.2.2.1 o hc0).1; rw [jsh_size] at this; omega
  rw [hC] at hOB
  show Jvm.Pilot.CCodeLayoutLaw_law_r9976_571ee0.W p l e R s m args below meth c' H locs cells slots _ (F0 m pc ls (.int n :: jrv o :: st.map jpv))
  rw [jrv_ne ho]
  refine va_newaK hx hb (hts _ ha.1) rfl hd rfl r1 rfl (Nat.le_trans (Nat.mul_le_mul r2 ha.2.1) (by decide)) (by omega) (Nat.le_trans (Nat.add_le_add_left r4 _) hsl0) (h := jX w - 1) (by have := hRel.2.1; rw [jsh_size] at this; omega) fun H1 cA e1 z1 o1 hAr hNm => ?_
  have hsz : H.size + 1 = jX w := by have := hRel.2.1; rw [jsh_size] at this; exact this
  have hX : jX w ≠ 0 := by omega
  have hcell : H1[jX w - 1]? = some (vp_cell (ac (jkd f)) (ix n, .inl (fun _ => 0))) := by
    rcases ha.2.2 with ⟨h, ht⟩ | ⟨h, ht⟩ | ⟨h, ht⟩ | ⟨h, ht⟩
    · rw [ht] at e1 hNm
      rw [e1, h, show ac 3 = cA from Option.some.inj (((hK.2 3 _ rfl).2 : s.vm.findClass _ = some (ac 3)).symm.trans hNm)]
      rfl
    · rw [ht] at e1 hNm
      rw [e1, h, show ac 4 = cA from Option.some.inj (((hK.2 4 _ rfl).2 : s.vm.findClass _ = some (ac 4)).symm.trans hNm)]
      rfl
    · rw [ht] at e1 hNm
      rw [e1, h, show ac 5 = cA from Option.some.inj (((hK.2 5 _ rfl).2 : s.vm.findClass _ = some (ac 5)).symm.trans hNm)]
      rfl
    · omega
  refine jput hxx hf hw (hOB.kept (o1 (o - 1) (by omega))) hd2 (by have := hn (jX w); rw [jrv_ne hX] at this; exact this) (by have := hfit (jX w); rw [jrv_ne hX] at this; exact this) fun H2 sl hT z2 o2 => ?_
  have hRel' : jRel D ac (jsh H0) (nwA w f o (ix n)) (jsh H2) := by
    refine hRel.newf (f := f) (o := o) (n := ix n) (by omega) hC h0 rfl rfl rfl rfl rfl rfl (fun f' o' hs => jcn_same (u2_n _ _ hs) rfl rfl) (by have := (t_OB_sh ho).mpr hT; exact this) ?_ (by rw [jsh_size, jsh_size, z2, z1]; omega) (fun q h1 h2 => by
      rw [jsh_size] at h1
      by_cases h0' : q = 0
      · rw [h0']; exact jsh_0 _ _
      · rw [jsh_at h0', jsh_at h0', o2 (q - 1) (by omega)]; exact o1 (q - 1) (by omega))
    rw [jsh_at hX, o2 _ (by omega), hcell, jcn_i hk]
    exact congrArg (fun z => some (vp_cell (ac (jkd f)) (ix n, Sum.inl z))) (u2_s _ _ _ _).symm
  refine k r hr' ls hl H2 _ (cells + 1) (slots + ix n) ⟨hRel', fun q hq => ?_, ?_, ?_⟩
  · rcases List.mem_append.mp hq with hq | hq
    · exact hlo q hq
    · rw [List.mem_singleton.mp hq]
      exact hlow
  · show cells + 1 + (jF w - 1) ≤ R.cells
    omega
  · show slots + ix n + (jS w - ix n) ≤ R.slots
    omega
theorem j_nwB (hx : jOK x own cc nL) (hf : jFW own idx f) (hw : jWr x own f) (hk : jkd f = 6) (ha : jat (jkd f) at_) (hC : jC w o = f / 100) (h0 : f / 100 ≠ 0) (hn : ∀ v, narrow (jtp f) (jrv v) = jrv v) (hfit : ∀ v, fits (jtp f) (jrv v) = true) (hd : decode cc pc = .ok (.newarray at_, 2)) (hd2 : decode cc (pc + 2) = .ok (.putfield idx, 3)) (hr : jra w n)
    (k : jJ x nL (pc + 2 + 3) lv st (nwB w f o (ix n)) mm en) : jJ x nL pc lv (vI n :: vR o :: st) w mm en := by
  obtain ⟨p, l, e, R, s, m, args, below, meth, c', D, ac, H0⟩ := x
  have hxx := hx
  obtain ⟨hx, hb, -, -, hown, ⟨hts, htn⟩, hK⟩ := hx
  intro r hr' ls hl H locs cells slots hG
  obtain ⟨hRel, hlo, hce, hsl0⟩ := hG
  obtain ⟨r1, r2, r3, r4⟩ := hr
  have hc0 : jC w o ≠ 0 := by rw [hC]; exact h0
  have ho := hRel.ne hc0
  have hox := hRel.lt hc0
  have hOB := (t_OB_sh ho).mp (hRel.2.2.2.2.1 o hc0).2
  have hlow : H0.size ≤ o - 1 := by have := (hRel.2.2.2.2.1 o hc0).1; rw [jsh_size] at this; omega
  rw [hC] at hOB
  show Jvm.Pilot.CCodeLayoutLaw_law_r9976_571ee0.W p l e R s m args below meth c' H locs cells slots _ (F0 m pc ls (.int n :: jrv o :: st.map jpv))
  rw [jrv_ne ho]
  refine va_newaK hx hb (hts _ ha.1) rfl hd rfl r1 rfl (Nat.le_trans (Nat.mul_le_mul r2 ha.2.1) (by decide)) (by omega) (Nat.le_trans (Nat.add_le_add_left r4 _) hsl0) (h := jX w - 1) (by have := hRel.2.1; rw [jsh_size] at this; omega) fun H1 cA e1 z1 o1 hAr hNm => ?_
  have hsz : H.size + 1 = jX w := by have := hRel.2.1; rw [jsh_size] at this; exact this
  have hX : jX w ≠ 0 := by omega
  have hcell : H1[jX w - 1]? = some (vp_cell (ac (jkd f)) (ix n, .inr (.inl (fun _ => 0)))) := by
    rcases ha.2.2 with ⟨h, ht⟩ | ⟨h, ht⟩ | ⟨h, ht⟩ | ⟨h, ht⟩
    · omega
    · omega
    · omega
    · rw [ht] at e1 hNm
      rw [e1, h, show ac 6 = cA from Option.some.inj (((hK.2 6 _ rfl).2 : s.vm.findClass _ = some (ac 6)).symm.trans hNm)]
      rfl
  refine jput hxx hf hw (hOB.kept (o1 (o - 1) (by omega))) hd2 (by have := hn (jX w); rw [jrv_ne hX] at this; exact this) (by have := hfit (jX w); rw [jrv_ne hX] at this; exact this) fun H2 sl hT z2 o2 => ?_
  have hRel' : jRel D ac (jsh H0) (nwB w f o (ix n)) (jsh H2) := by
    refine hRel.newf (f := f) (o := o) (n := ix n) (by omega) hC h0 rfl rfl rfl rfl rfl rfl (fun f' o' hs => jcn_same rfl (u2_n _ _ hs) rfl) (by have := (t_OB_sh ho).mpr hT; exact this) ?_ (by rw [jsh_size, jsh_size, z2, z1]; omega) (fun q h1 h2 => by
      rw [jsh_size] at h1
      by_cases h0' : q = 0
      · rw [h0']; exact jsh_0 _ _
      · rw [jsh_at h0', jsh_at h0', o2 (q - 1) (by omega)]; exact o1 (q - 1) (by omega))
    rw [jsh_at hX, o2 _ (by omega), hcell, jcn_l hk]
    exact congrArg (fun z => some (vp_cell (ac (jkd f)) (ix n, Sum.inr (Sum.inl z)))) (u2_s _ _ _ _).symm
  refine k r hr' ls hl H2 _ (cells + 1) (slots + ix n) ⟨hRel', fun q hq => ?_, ?_, ?_⟩
  · rcases List.mem_append.mp hq with hq | hq
    · exact hlo q hq
    · rw [List.mem_singleton.mp hq]
      exact hlow
  · show cells + 1 + (jF w - 1) ≤ R.cells
    omega
  · show slots + ix n + (jS w - ix n) ≤ R.slots
    omega
end JO
/-- a free array goes into the field f of o -/
def atA (w : jW) (f o a : Nat) : jW := sN (sR (sA (sN (sR w f o a) f o (jN w (9000 + jkd f) a)) f o (jA w (9000 + jkd f) a)) (9000 + jkd f) a 0) (9000 + jkd f) a 0
theorem jkd_free (k : Nat) : jkd (9000 + k) = k := by
  unfold jkd
  rw [show Nat.ble 9000 (9000 + k) = true from Nat.ble_eq_true_of_le (Nat.le_add_right _ _)]
  exact Nat.add_sub_cancel_left 9000 k
theorem jRel.att {D : va_G} {ac : Nat → ClassId} {H0 H H' : Heap} {w : jW} (h : jRel D ac H0 w H) {f o a : Nat} (hk : jkd f = 3 ∨ jkd f = 4 ∨ jkd f = 5) (hf : f < 9000) (hc : jC w o = f / 100) (h0 : f / 100 ≠ 0) (hfr : jR w (9000 + jkd f) a = a) (ha : a ≠ 0)
    (hT : t_OB o (D.1 (f / 100)) (jnf (f / 100)) (D.2 (f / 100)) H' (updV (fun j => jfv w (100 * (f / 100) + j) o) (f % 100) (.ref (a - 1))))
    (e2 : H'.size = H.size) (e3 : ∀ q, q ≠ o → H'[q]? = H[q]?) : jRel D ac H0 (atA w f o a) H' := by
  have hlt := fun o => h.lt (o := o)
  have hal := fun f o => h.arrLt (f := f) (o := o)
  obtain ⟨h1, h2, h3, h4, h5, h6, h7, h8, h9, h10⟩ := h
  have hco : jC w o ≠ 0 := by rw [hc]; exact h0
  have hlow := (h5 o hco).1
  have hox := hlt o hco
  have hk3 : 3 ≤ jkd f := by omega
  have hkF : jkd (9000 + jkd f) = jkd f := jkd_free _
  have hFne : ∀ z, ¬ (9000 + z = f) := fun z q => by omega
  obtain ⟨b1, b2, b3⟩ := h6 (9000 + jkd f) a (by rw [hkF]; exact hk3) (by rw [hfr]; exact ha)
  rw [hfr] at b1 b2 b3
  have hax := hal (9000 + jkd f) a (by rw [hkF]; exact hk3) (by rw [hfr]; exact ha)
  rw [hfr] at hax
  have hRs : jR (atA w f o a) f o = a := by
    show u2 (u2 (jR w) f o a) (9000 + jkd f) a 0 f o = a
    rw [u2_f _ _ (fun z => hFne _ z.symm), u2_s]
  have hRF : jR (atA w f o a) (9000 + jkd f) a = 0 := u2_s _ _ _ _
  have hRo : ∀ f' o', ¬ (f' = f ∧ o' = o) → ¬ (f' = 9000 + jkd f ∧ o' = a) → jR (atA w f o a) f' o' = jR w f' o' := fun f' o' hn hn' => by
    show u2 (u2 (jR w) f o a) (9000 + jkd f) a 0 f' o' = _
    rw [u2_n _ _ hn', u2_n _ _ hn]
  have hNs : jN (atA w f o a) f o = jN w (9000 + jkd f) a := by
    show u2 (u2 (jN w) f o _) (9000 + jkd f) a 0 f o = _
    rw [u2_f _ _ (fun z => hFne _ z.symm), u2_s]
  have hNF : jN (atA w f o a) (9000 + jkd f) a = 0 := u2_s _ _ _ _
  have hNo : ∀ f' o', ¬ (f' = f ∧ o' = o) → ¬ (f' = 9000 + jkd f ∧ o' = a) → jN (atA w f o a) f' o' = jN w f' o' := fun f' o' hn hn' => by
    show u2 (u2 (jN w) f o _) (9000 + jkd f) a 0 f' o' = _
    rw [u2_n _ _ hn', u2_n _ _ hn]
  have hcs : jcn (atA w f o a) f o = jcn w (9000 + jkd f) a := by
    rw [jcn_i hk, jcn_i (by rw [hkF]; exact hk)]
    exact congrArg Sum.inl (u2_s _ _ _ _)
  have hco' : ∀ f' o', ¬ (f' = f ∧ o' = o) → jcn (atA w f o a) f' o' = jcn w f' o' := fun f' o' hn => jcn_same (u2_n _ _ hn) rfl rfl
  have hap : ∀ f' o', 3 ≤ jkd f' → jR w f' o' ≠ 0 → ¬ (f' = 9000 + jkd f ∧ o' = a) → jR w f' o' ≠ a := fun f' o' hk' hr' hn z => hn (h8 f' o' (9000 + jkd f) a hk' (by rw [hkF]; exact hk3) hr' (by rw [hfr]; exact z))
  refine ⟨h1, by rw [e2, h2]; rfl, by rw [e2]; exact h3, fun q hq => by rw [e3 q (by omega)]; exact h4 q hq, ?_, ?_, ?_, ?_, ?_, fun f' => by rw [hRo f' 0 (fun z => by omega) (fun z => by omega)]; exact h10 f'⟩
  · intro o' ho
    have ho : jC w o' ≠ 0 := ho
    show H0.size ≤ o' ∧ t_OB o' (D.1 (jC w o')) (jnf (jC w o')) (D.2 (jC w o')) H' (fun j => jfv (atA w f o a) (100 * jC w o' + j) o')
    by_cases hq : o' = o
    · subst hq
      refine ⟨hlow, ?_⟩
      rw [hc]
      refine hT.to fun j hj => ?_
      have hj1 : j < 100 := Nat.lt_trans hj (jnf_lt _)
      have hj2 := jnf_pos hj
      unfold updV
      have he : 100 * (f / 100) + f % 100 = f := Nat.div_add_mod f 100
      by_cases hjf : j = f % 100
      · rw [if_pos hjf, hjf, he]
        unfold jfv
        rw [hRs, jrv_ne ha]
        split <;> first | omega | rfl
      · rw [if_neg hjf]
        exact (jfv_eq (w := w) (w' := atA w f _ a) rfl rfl (hRo (100 * (f / 100) + j) o' (fun z => by omega) (fun z => by omega))).symm
    · refine ⟨(h5 o' ho).1, ((h5 o' ho).2.kept (e3 o' hq)).to fun j hj => ?_⟩
      have hj1 : j < 100 := Nat.lt_trans hj (jnf_lt _)
      have hj2 := jnf_pos hj
      exact (jfv_eq (w := w) (w' := atA w f _ a) rfl rfl (hRo (100 * jC w o' + j) o' (fun z => hq z.2) (fun z => by omega))).symm
  · intro f' o' hk' hr'
    by_cases hs : f' = f ∧ o' = o
    · obtain ⟨rfl, rfl⟩ := hs
      rw [hRs, hNs, hcs]
      refine ⟨b1, b2, ?_⟩
      rw [e3 a (fun z => by rw [z] at b2; exact hco b2), b3, hkF]
    · by_cases hs2 : f' = 9000 + jkd f ∧ o' = a
      · obtain ⟨rfl, rfl⟩ := hs2
        rw [hRF] at hr'
        exact absurd rfl hr'
      · rw [hRo _ _ hs hs2] at hr' ⊢
        rw [hNo _ _ hs hs2, hco' _ _ hs]
        obtain ⟨c1, c2, c3⟩ := h6 f' o' hk' hr'
        exact ⟨c1, c2, by rw [e3 _ (fun z => by rw [z] at c2; exact hco c2)]; exact c3⟩
  · intro f' o' hk' hr'
    by_cases hs : f' = f ∧ o' = o
    · obtain ⟨rfl, rfl⟩ := hs
      rw [hRs] at hr'
      exact absurd hr' ha
    · by_cases hs2 : f' = 9000 + jkd f ∧ o' = a
      · obtain ⟨rfl, rfl⟩ := hs2
        exact hNF
      · rw [hRo _ _ hs hs2] at hr'
        rw [hNo _ _ hs hs2]
        exact h7 f' o' hk' hr'
  · intro f' o' f2 o2 hk' hk2 hr' he
    by_cases hs : f' = f ∧ o' = o
    · by_cases hs2 : f2 = f ∧ o2 = o
      · exact ⟨hs.1.trans hs2.1.symm, hs.2.trans hs2.2.symm⟩
      · obtain ⟨rfl, rfl⟩ := hs
        by_cases ht : f2 = 9000 + jkd f' ∧ o2 = a
        · obtain ⟨rfl, rfl⟩ := ht
          rw [hRF] at he
          exact absurd he hr'
        · rw [hRs, hRo _ _ hs2 ht] at he
          exact absurd he.symm (hap f2 o2 hk2 (by rw [← he]; exact ha) ht)
    · by_cases ht : f' = 9000 + jkd f ∧ o' = a
      · obtain ⟨rfl, rfl⟩ := ht
        rw [hRF] at hr'
        exact absurd rfl hr'
      · rw [hRo _ _ hs ht] at hr' he
        by_cases hs2 : f2 = f ∧ o2 = o
        · obtain ⟨rfl, rfl⟩ := hs2
          rw [hRs] at he
          exact absurd he (hap f' o' hk' hr' ht)
        · by_cases ht2 : f2 = 9000 + jkd f ∧ o2 = a
          · obtain ⟨rfl, rfl⟩ := ht2
            rw [hRF] at he
            exact absurd he hr'
          · rw [hRo _ _ hs2 ht2] at he
            exact h8 f' o' f2 o2 hk' hk2 hr' he
  · intro f' q hq
    have hq : jX w ≤ q := hq
    obtain ⟨c1, c2, c3, c4⟩ := h9 f' q hq
    exact ⟨c1, c2, by rw [hRo _ _ (fun z => by omega) (fun z => by omega)]; exact c3, by rw [hNo _ _ (fun z => by omega) (fun z => by omega)]; exact c4⟩
section JT
variable {α : Type} {x : jCx} {own : String} {cc : ByteArray} {nL pc : Nat} {lv : List (Nat × jV)} {st : List jV} {w : jW} {mm : Option α} {en : α → Option (Outcome × jW)} {idx f o a : Nat}
theorem j_att (hx : jOK x own cc nL) (hf : jFW own idx f) (hw : jWr x own f) (hk : jkd f = 3 ∨ jkd f = 4 ∨ jkd f = 5) (hlt : f < 9000) (hC : jC w o = f / 100) (h0 : f / 100 ≠ 0) (hn : ∀ v, narrow (jtp f) (jrv v) = jrv v) (hfit : ∀ v, fits (jtp f) (jrv v) = true) (hd : decode cc pc = .ok (.putfield idx, 3)) (hfr : jR w (9000 + jkd f) a = a ∧ a ≠ 0)
    (k : jJ x nL (pc + 3) lv st (atA w f o a) mm en) : jJ x nL pc lv (vR a :: vR o :: st) w mm en := by
  obtain ⟨p, l, e, R, s, m, args, below, meth, c', D, ac, H0⟩ := x
  intro r hr' ls hl H locs cells slots hG
  obtain ⟨hRel, hlo, hce, hsl0⟩ := hG
  have hc0 : jC w o ≠ 0 := by rw [hC]; exact h0
  have ho := hRel.ne hc0
  have hOB := (t_OB_sh ho).mp (hRel.2.2.2.2.1 o hc0).2
  have hlow : H0.size ≤ o - 1 := by have := (hRel.2.2.2.2.1 o hc0).1; rw [jsh_size] at this; omega
  rw [hC] at hOB
  show Jvm.Pilot.CCodeLayoutLaw_law_r9976_571ee0.W p l e R s m args below meth c' H locs cells slots _ (F0 m pc ls (jrv a :: jrv o :: st.map jpv))
  rw [jrv_ne ho, jrv_ne hfr.2]
  refine jput hx hf hw hOB hd (by have := hn a; rw [jrv_ne hfr.2] at this; exact this) (by have := hfit a; rw [jrv_ne hfr.2] at this; exact this) fun H2 sl hT z2 o2 => ?_
  refine k r hr' ls hl H2 _ cells slots ⟨hRel.att hk hlt hC h0 hfr.1 hfr.2 ((t_OB_sh ho).mpr hT) (by rw [jsh_size, jsh_size, z2]) (jsh_oth ho o2), fun q hq => ?_, hce, hsl0⟩
  rcases List.mem_append.mp hq with hq | hq
  · exact hlo q hq
  · rw [List.mem_singleton.mp hq]
    exact hlow
end JT
