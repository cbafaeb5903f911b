/-! ===== more rows ===== -/
def jtb (cc : ByteArray) (tb : List (Nat × Instr)) : Bool := tb.all fun q => decide (decode cc q.1 = .ok (q.2, jln q.2))
theorem jtb_ok {cc : ByteArray} {tb : List (Nat × Instr)} (h : jtb cc tb = true) : jTab cc tb := fun q hq => of_decide_eq_true (List.all_eq_true.mp h q hq)
theorem jkc {own : String} {idx : Nat} {u v : Int32} (h : Cond.constant own idx v ∈ lw_all) (e : u = v) : Cond.constant own idx u ∈ lw_all := e ▸ h
theorem jkd2 {own : String} {idx : Nat} {u v : Int64} (h : Cond.constantLong own idx v ∈ lw_all) (e : u = v) : Cond.constantLong own idx u ∈ lw_all := e ▸ h
theorem jz0 : i2z (kI 0) = kI 0 := by decide +kernel
theorem jz1 : i2z (kI 1) = kI 1 := by decide +kernel
theorem jzn {v : Int32} (h : i2z v = v) : narrow .boolean (.int v) = .int v := by
  have : narrow .boolean (.int v) = .int (i2z v) := rfl
  rw [this, h]
theorem jz01 {v : Int32} (h : i2z v = v) : v = 0 ∨ v = 1 := by
  have h1 : v &&& 1 = v := h
  have h2 : v.toBitVec.toNat % 2 = v.toBitVec.toNat := by
    have h3 : (v &&& 1).toBitVec.toNat = v.toBitVec.toNat := by rw [h1]
    rw [Int32.toBitVec_and, BitVec.toNat_and] at h3
    rw [← Nat.and_one_is_mod]
    exact h3
  have h3 : v.toBitVec.toNat = 0 ∨ v.toBitVec.toNat = 1 := by omega
  rcases h3 with h3 | h3
  · exact Or.inl (Int32.toBitVec.inj (BitVec.eq_of_toNat_eq h3))
  · exact Or.inr (Int32.toBitVec.inj (BitVec.eq_of_toNat_eq h3))
theorem jzf {v : Int32} (h : i2z v = v) : fits .boolean (.int v) = true := by
  rcases jz01 h with rfl | rfl <;> rfl
theorem jz0n : narrow .boolean (.int (kI 0)) = .int (kI 0) := jzn jz0
theorem jz1n : narrow .boolean (.int (kI 1)) = .int (kI 1) := jzn jz1
abbrev pA (w : jW) (f o i : Nat) (v : Int32) : jW := sA w f o (va_up (jA w f o) i v)
abbrev pB (w : jW) (f o i : Nat) (v : Int64) : jW := sB w f o (va_up (jB w f o) i v)
abbrev pE (w : jW) (f o i v : Nat) : jW := sE w f o (va_up (jE w f o) i v)
def nwE (w : jW) (f o n : Nat) : jW := sX (sE (sN (sR w f o (jX w)) f o n) f o (fun _ => 0)) n
def atB (w : jW) (f o a : Nat) : jW := sN (sR (sB (sN (sR w f o a) f o (jN w (9000 + jkd f) a)) f o (jB w (9000 + jkd f) a)) (9000 + jkd f) a 0) (9000 + jkd f) a 0
/-- what a copy asks -/
abbrev jcp (w : jW) (f o f2 o2 : Nat) (sp dp n : Int32) : Prop := ¬ sp < 0 ∧ ¬ dp < 0 ∧ ¬ n < 0 ∧ ix sp + ix n ≤ jN w f o ∧ ix dp + ix n ≤ jN w f2 o2
def cpA (w : jW) (f o f2 o2 : Nat) (sp dp n : Int32) : jW := sA w f2 o2 (va_cpy (jA w f o) (jA w f2 o2) (ix sp) (ix dp) (ix n))
def cpB (w : jW) (f o f2 o2 : Nat) (sp dp n : Int32) : jW := sB w f2 o2 (va_cpy (jB w f o) (jB w f2 o2) (ix sp) (ix dp) (ix n))
theorem jRel.attB {D : va_G} {ac : Nat → ClassId} {H0 H H' : Heap} {w : jW} (h : jRel D ac H0 w H) {f o a : Nat} (hk : jkd f = 6) (hf : f < 9000) (hc : jC w o = f / 100) (h0 : f / 100 ≠ 0) (hfr : jR w (9000 + jkd f) a = a) (ha : a ≠ 0)
    (hT : t_OB o (D.1 (f / 100)) (jnf (f / 100)) (D.2 (f / 100)) H' (updV (fun j => jfv w (100 * (f / 100) + j) o) (f % 100) (.ref (a - 1))))
    (e2 : H'.size = H.size) (e3 : ∀ q, q ≠ o → H'[q]? = H[q]?) : jRel D ac H0 (atB w f o a) H' := by
  have hlt := fun o => h.lt (o := o)
  have hal := fun f o => h.arrLt (f := f) (o := o)
  obtain ⟨h1, h2, h3, h4, h5, h6, h7, h8, h9, h10⟩ := h
  have hco : jC w o ≠ 0 := by rw [hc]; exact h0
  have hlow := (h5 o hco).1
  have hox := hlt o hco
  have hk3 : 3 ≤ jkd f := by omega
  have hkF : jkd (9000 + jkd f) = jkd f := jkd_free _
  have hFne : ∀ z, ¬ (9000 + z = f) := fun z q => by omega
  obtain ⟨b1, b2, b3⟩ := h6 (9000 + jkd f) a (by rw [hkF]; exact hk3) (by rw [hfr]; exact ha)
  rw [hfr] at b1 b2 b3
  have hax := hal (9000 + jkd f) a (by rw [hkF]; exact hk3) (by rw [hfr]; exact ha)
  rw [hfr] at hax
  have hRs : jR (atB w f o a) f o = a := by
    show u2 (u2 (jR w) f o a) (9000 + jkd f) a 0 f o = a
    rw [u2_f _ _ (fun z => hFne _ z.symm), u2_s]
  have hRF : jR (atB w f o a) (9000 + jkd f) a = 0 := u2_s _ _ _ _
  have hRo : ∀ f' o', ¬ (f' = f ∧ o' = o) → ¬ (f' = 9000 + jkd f ∧ o' = a) → jR (atB w f o a) f' o' = jR w f' o' := fun f' o' hn hn' => by
    show u2 (u2 (jR w) f o a) (9000 + jkd f) a 0 f' o' = _
    rw [u2_n _ _ hn', u2_n _ _ hn]
  have hNs : jN (atB w f o a) f o = jN w (9000 + jkd f) a := by
    show u2 (u2 (jN w) f o _) (9000 + jkd f) a 0 f o = _
    rw [u2_f _ _ (fun z => hFne _ z.symm), u2_s]
  have hNF : jN (atB w f o a) (9000 + jkd f) a = 0 := u2_s _ _ _ _
  have hNo : ∀ f' o', ¬ (f' = f ∧ o' = o) → ¬ (f' = 9000 + jkd f ∧ o' = a) → jN (atB w f o a) f' o' = jN w f' o' := fun f' o' hn hn' => by
    show u2 (u2 (jN w) f o _) (9000 + jkd f) a 0 f' o' = _
    rw [u2_n _ _ hn', u2_n _ _ hn]
  have hcs : jcn (atB w f o a) f o = jcn w (9000 + jkd f) a := by
    rw [jcn_l hk, jcn_l (by rw [hkF]; exact hk)]
    exact congrArg (fun z => Sum.inr (Sum.inl z)) (u2_s _ _ _ _)
  have hco' : ∀ f' o', ¬ (f' = f ∧ o' = o) → jcn (atB w f o a) f' o' = jcn w f' o' := fun f' o' hn => jcn_same rfl (u2_n _ _ hn) rfl
  have hap : ∀ f' o', 3 ≤ jkd f' → jR w f' o' ≠ 0 → ¬ (f' = 9000 + jkd f ∧ o' = a) → jR w f' o' ≠ a := fun f' o' hk' hr' hn z => hn (h8 f' o' (9000 + jkd f) a hk' (by rw [hkF]; exact hk3) hr' (by rw [hfr]; exact z))
  refine ⟨h1, by rw [e2, h2]; rfl, by rw [e2]; exact h3, fun q hq => by rw [e3 q (by omega)]; exact h4 q hq, ?_, ?_, ?_, ?_, ?_, fun f' => by rw [hRo f' 0 (fun z => by omega) (fun z => by omega)]; exact h10 f'⟩
  · intro o' ho
    have ho : jC w o' ≠ 0 := ho
    show H0.size ≤ o' ∧ t_OB o' (D.1 (jC w o')) (jnf (jC w o')) (D.2 (jC w o')) H' (fun j => jfv (atB w f o a) (100 * jC w o' + j) o')
    by_cases hq : o' = o
    · subst hq
      refine ⟨hlow, ?_⟩
      rw [hc]
      refine hT.to fun j hj => ?_
      have hj1 : j < 100 := Nat.lt_trans hj (jnf_lt _)
      have hj2 := jnf_pos hj
      unfold updV
      have he : 100 * (f / 100) + f % 100 = f := Nat.div_add_mod f 100
      by_cases hjf : j = f % 100
      · rw [if_pos hjf, hjf, he]
        unfold jfv
        rw [hRs, jrv_ne ha]
        split <;> first | omega | rfl
      · rw [if_neg hjf]
        exact (jfv_eq (w := w) (w' := atB w f _ a) rfl rfl (hRo (100 * (f / 100) + j) o' (fun z => by omega) (fun z => by omega))).symm
    · refine ⟨(h5 o' ho).1, ((h5 o' ho).2.kept (e3 o' hq)).to fun j hj => ?_⟩
      have hj1 : j < 100 := Nat.lt_trans hj (jnf_lt _)
      have hj2 := jnf_pos hj
      exact (jfv_eq (w := w) (w' := atB w f _ a) rfl rfl (hRo (100 * jC w o' + j) o' (fun z => hq z.2) (fun z => by omega))).symm
  · intro f' o' hk' hr'
    by_cases hs : f' = f ∧ o' = o
    · obtain ⟨rfl, rfl⟩ := hs
      rw [hRs, hNs, hcs]
      refine ⟨b1, b2, ?_⟩
      rw [e3 a (fun z => by rw [z] at b2; exact hco b2), b3, hkF]
    · by_cases hs2 : f' = 9000 + jkd f ∧ o' = a
      · obtain ⟨rfl, rfl⟩ := hs2
        rw [hRF] at hr'
        exact absurd rfl hr'
      · rw [hRo _ _ hs hs2] at hr' ⊢
        rw [hNo _ _ hs hs2, hco' _ _ hs]
        obtain ⟨c1, c2, c3⟩ := h6 f' o' hk' hr'
        exact ⟨c1, c2, by rw [e3 _ (fun z => by rw [z] at c2; exact hco c2)]; exact c3⟩
  · intro f' o' hk' hr'
    by_cases hs : f' = f ∧ o' = o
    · obtain ⟨rfl, rfl⟩ := hs
      rw [hRs] at hr'
      exact absurd hr' ha
    · by_cases hs2 : f' = 9000 + jkd f ∧ o' = a
      · obtain ⟨rfl, rfl⟩ := hs2
        exact hNF
      · rw [hRo _ _ hs hs2] at hr'
        rw [hNo _ _ hs hs2]
        exact h7 f' o' hk' hr'
  · intro f' o' f2 o2 hk' hk2 hr' he
    by_cases hs : f' = f ∧ o' = o
    · by_cases hs2 : f2 = f ∧ o2 = o
      · exact ⟨hs.1.trans hs2.1.symm, hs.2.trans hs2.2.symm⟩
      · obtain ⟨rfl, rfl⟩ := hs
        by_cases ht : f2 = 9000 + jkd f' ∧ o2 = a
        · obtain ⟨rfl, rfl⟩ := ht
          rw [hRF] at he
          exact absurd he hr'
        · rw [hRs, hRo _ _ hs2 ht] at he
          exact absurd he.symm (hap f2 o2 hk2 (by rw [← he]; exact ha) ht)
    · by_cases ht : f' = 9000 + jkd f ∧ o' = a
      · obtain ⟨rfl, rfl⟩ := ht
        rw [hRF] at hr'
        exact absurd rfl hr'
      · rw [hRo _ _ hs ht] at hr' he
        by_cases hs2 : f2 = f ∧ o2 = o
        · obtain ⟨rfl, rfl⟩ := hs2
          rw [hRs] at he
          exact absurd he (hap f' o' hk' hr' ht)
        · by_cases ht2 : f2 = 9000 + jkd f ∧ o2 = a
          · obtain ⟨rfl, rfl⟩ := ht2
            rw [hRF] at he
            exact absurd he hr'
          · rw [hRo _ _ hs2 ht2] at he
            exact h8 f' o' f2 o2 hk' hk2 hr' he
  · intro f' q hq
    have hq : jX w ≤ q := hq
    obtain ⟨c1, c2, c3, c4⟩ := h9 f' q hq
    exact ⟨c1, c2, by rw [hRo _ _ (fun z => by omega) (fun z => by omega)]; exact c3, by rw [hNo _ _ (fun z => by omega) (fun z => by omega)]; exact c4⟩
section JMO
variable {α : Type} {x : jCx} {own : String} {cc : ByteArray} {nL pc : Nat} {lv : List (Nat × jV)} {st : List jV} {w : jW} {mm : Option α} {en : α → Option (Outcome × jW)} {idx f o : Nat}
theorem j_ltw {w0 w1 : jW} (hc : jC w1 = jC w0) {K : jW → Option α} (k : ∀ W1, jC W1 = jC w0 → jJ x nL pc lv st W1 (K W1) en) : jJ x nL pc lv st w1 (jlt w1 K) en := k w1 hc
theorem j_ltn {w1 : jW} {K : jW → Option α} (k : ∀ W1, jJ x nL pc lv st W1 (K W1) en) : jJ x nL pc lv st w1 (jlt w1 K) en := k w1
theorem j_letT {β : Type} {v : β} {k : β → α} {lv : β → List (Nat × jV)} {st : β → List jV} (h : ∀ v, jJ x nL pc (lv v) (st v) w (some (k v)) en) : jJ x nL pc (lv v) (st v) w (some (jlt v k)) en := h v
theorem j_upE {z : Nat × jW} {a : α} {r : Outcome × jW} {nm : String} {ret : Option FieldType} (hm : jMt x nm ret []) (hx : jOK x own cc nL) (ht : en a = some (.threw (z.1 - 1), z.2)) (hr : (some a).bind en = some r) : jX1 x nL pc lv z.2 (z.1 - 1) r := by
  cases ht.symm.trans (show en a = some r from hr)
  exact j_up hm (fun h hh => by cases hh) hx
/-- one key of a switch -/
theorem j_tab (hx : jOK x own cc nL) {v : Int32} {dflt lo hi : Int} {offs : Array Int} {len : Nat} {k off : Int} {tgt : Nat} {A B : Option α} (hd : decode cc pc = .ok (.tableswitch dflt lo hi offs, len)) (h1 : ¬ k < lo) (h2 : ¬ hi < k) (h3 : -2147483648 ≤ k ∧ k < 2147483648) (ho : offs[(k - lo).toNat]? = some off) (ht : (pc : Int) + off = (tgt : Int))
    (kt : v = kI k → jJ x nL tgt lv st w A en) (kf : ¬ v = kI k → jJ x nL pc lv (vI v :: st) w B en) : jJ x nL pc lv (vI v :: st) w (if v = kI k then A else B) en := by
  by_cases hv : v = kI k
  · rw [if_pos hv]
    have hk : v.toInt = k := by rw [hv]; unfold kI; exact Int32.toInt_ofInt_of_le (by omega) (by omega)
    obtain ⟨p, l, e, R, s, m, args, below, meth, c, D, ac, H0⟩ := x
    obtain ⟨hx, hb, -⟩ := hx
    intro r hr ls hl H locs cells slots hG
    exact lv_tableIn hx hb hd (by rw [hk]; exact h1) (by rw [hk]; exact h2) (by rw [hk]; exact ho) ht (kt hv r hr ls hl H locs cells slots hG)
  · rw [if_neg hv]
    exact kf hv
/-- no key of a switch -/
theorem j_tabD (hx : jOK x own cc nL) {v : Int32} {dflt lo hi : Int} {offs : Array Int} {len : Nat} {tgt : Nat} (hd : decode cc pc = .ok (.tableswitch dflt lo hi offs, len)) (ht : (pc : Int) + dflt = (tgt : Int)) (hall : ∀ i : Nat, i < (hi - lo + 1).toNat → offs[i]? = some dflt ∨ ¬ v = kI (lo + i))
    (k : jJ x nL tgt lv st w mm en) : jJ x nL pc lv (vI v :: st) w mm en := by
  obtain ⟨p, l, e, R, s, m, args, below, meth, c, D, ac, H0⟩ := x
  obtain ⟨hx, hb, -⟩ := hx
  intro r hr ls hl H locs cells slots hG
  have kk := k r hr ls hl H locs cells slots hG
  by_cases h1 : v.toInt < lo
  · exact lv_tableOut hx hb hd (Or.inl h1) ht kk
  by_cases h2 : hi < v.toInt
  · exact lv_tableOut hx hb hd (Or.inr h2) ht kk
  rcases hall (v.toInt - lo).toNat (by omega) with h | h
  · exact lv_tableIn hx hb hd h1 h2 h ht kk
  · exact absurd (by
      have e1 : lo + ((v.toInt - lo).toNat : Int) = v.toInt := by omega
      rw [e1]
      unfold kI
      exact (Int32.ofInt_toInt v).symm) h
/-- the constructor of Object -/
theorem j_obj {RF RL : Nat} (hx : jOK x own cc nL) (hr : jRm x RF RL) (hlk : Cond.methodLink own idx Lib.objectInit ∈ lw_all) (ho : ¬ o = 0) (hin : Cond.instanceMethod Lib.objectInit ∈ lw_all) (hco : Cond.code Lib.objectInit ⟨#[0xb1]⟩ 1 none ∈ lw_all) (hd : decode cc pc = .ok (.invokespecial idx, 3)) (hrf : 1 ≤ RF) (hrl : jws st + 12 ≤ RL) (k : jJ x nL (pc + 3) lv st w mm en) : jJ x nL pc lv (vR o :: st) w mm en := by
  obtain ⟨p, l, e, R, s, m, args, below, meth, c, D, ac, H0⟩ := x
  obtain ⟨hx, hb, hml, -, hown, ⟨hts, htn⟩, hK⟩ := hx
  obtain ⟨hr1, hr2, -⟩ := hr
  intro r hr ls hl H locs cells slots hG
  show Jvm.Pilot.CCodeLayoutLaw_law_r9976_571ee0.W p l e R s m args below meth c H locs cells slots _ (F0 m pc ls (jrv o :: st.map jpv))
  rw [jrv_ne ho]
  exact W.objInit hx hb hown (hts _ hlk) (hts _ hin) (hts _ hco) rfl (by show ls.size = _; rw [hml]; exact hl.1) rfl hd (by omega) (by show 2 * 0 + ((st.map jpv).map fun v => v.category).sum + 12 ≤ R.locals; rw [jws_sum]; omega) (k r hr ls hl H locs cells slots hG)
theorem j_cast (hx : jOK x own cc nL) {c : Nat} (hC : jC w o = c) (h0 : c ≠ 0) {C : String} {T : u_T} {N : Nat} (hl : Cond.classLink own idx C ∈ lw_all) (hc : jcl[c]? = some (C, T, N)) (hd : decode cc pc = .ok (.checkcast idx, 3)) (k : jJ x nL (pc + 3) lv (vR o :: st) w mm en) : jJ x nL pc lv (vR o :: st) w mm en := by
  obtain ⟨p, l, e, R, s, m, args, below, meth, c', D, ac, H0⟩ := x
  obtain ⟨hx, hb, -, -, hown, ⟨hts, htn⟩, hK⟩ := hx
  intro r hr ls hl' H locs cells slots hG
  obtain ⟨ho, hcell⟩ := hG.1.recv hK hC h0 hc
  have kk : Jvm.Pilot.CCodeLayoutLaw_law_r9976_571ee0.W p l e R s m args below meth c' H locs cells slots _ (F0 m (pc + 3) ls (jrv o :: st.map jpv)) := k r hr ls hl' H locs cells slots hG
  show Jvm.Pilot.CCodeLayoutLaw_law_r9976_571ee0.W p l e R s m args below meth c' H locs cells slots _ (F0 m pc ls (jrv o :: st.map jpv))
  rw [jrv_ne ho] at kk ⊢
  exact va_castS hx hb hown (hts _ hl) (hK.1 c _ hc).2 hcell hd kk
theorem j_aald {a : Nat} {i : Int32} (hx : jOK x own cc nL) (hk : jkd f = 7) (ha : jR w f o = a) (hd : decode cc pc = .ok (.aaload, 1)) (hi : jin i (jN w f o)) (k : jJ x nL (pc + 1) lv (vR (jE w f o (ix i)) :: st) w mm en) : jJ x nL pc lv (vI i :: vR a :: st) w mm en := by
  obtain ⟨p, l, e, R, s, m, args, below, meth, c, D, ac, H0⟩ := x
  obtain ⟨hx, hb, -, -, hown, -, hK⟩ := hx
  intro r hr ls hl H locs cells slots hG
  have hk3 : 3 ≤ jkd f := by omega
  have hne := hG.1.live hk3 hi
  obtain ⟨-, -, hcell⟩ := hG.1.2.2.2.2.2.1 f o hk3 hne
  rw [jcn_e (Or.inl hk), hk, jsh_at hne] at hcell
  subst ha
  show Jvm.Pilot.CCodeLayoutLaw_law_r9976_571ee0.W p l e R s m args below meth c H locs cells slots _ (F0 m pc ls (.int i :: jrv (jR w f o) :: st.map jpv))
  rw [jrv_ne hne]
  refine va_aldq hx hb hK (j_one hcell) 0 7 rfl rfl hi hd ?_
  rw [jro_rf]
  exact k r hr ls hl H locs cells slots hG
theorem j_aast {a : Nat} {i : Int32} {v : Nat} (hx : jOK x own cc nL) (hk : jkd f = 7) (ha : jR w f o = a) (hd : decode cc pc = .ok (.aastore, 1)) (hi : jin i (jN w f o)) (hv : jC w v = 10) (k : jJ x nL (pc + 1) lv st (pE w f o (ix i) v) mm en) : jJ x nL pc lv (vR v :: vI i :: vR a :: st) w mm en := by
  obtain ⟨p, l, e, R, s, m, args, below, meth, c, D, ac, H0⟩ := x
  obtain ⟨hx, hb, -, -, hown, -, hK⟩ := hx
  intro r hr ls hl H locs cells slots hG
  obtain ⟨hRel, hlo, hce, hsl0⟩ := hG
  have hk3 : 3 ≤ jkd f := by omega
  have hne := hRel.live hk3 hi
  obtain ⟨hlow, -, hcell⟩ := hRel.2.2.2.2.2.1 f o hk3 hne
  have hlow : H0.size ≤ jR w f o - 1 := by rw [jsh_size] at hlow; omega
  rw [jcn_e (Or.inl hk), hk, vp_cell_q, jsh_at hne] at hcell
  subst ha
  obtain ⟨hv0, cellV, g1, g3, g4⟩ := hRel.recv hK hv (by decide) (C := "CodeLayout$Machine") rfl
  show Jvm.Pilot.CCodeLayoutLaw_law_r9976_571ee0.W p l e R s m args below meth c H locs cells slots _ (F0 m pc ls (jrv v :: .int i :: jrv (jR w f o) :: st.map jpv))
  rw [jrv_ne hne, jrv_ne hv0]
  have hcls := (hK.1 10 _ rfl).2
  obtain ⟨kA, comp, k1, k2, k3, -⟩ := (hK.2 7 _ rfl).2
  have hcomp : comp = D.1 10 := Option.some.inj (k3.symm.trans hcls.1)
  subst hcomp
  have g2 : cellV.cls = D.1 10 := Option.some.inj (g4.symm.trans hcls.1)
  obtain ⟨kC, hkC, -⟩ := hcls.2
  have h0 : ¬ i < 0 := fun q => hi (Or.inl q)
  have hlt : ix i < jN w f o := Nat.not_le.mp fun q => hi (Or.inr q)
  refine W.aast hx hb hcell (fun q h => by cases h) (fun h => by cases h) k1 k2 rfl hkC ⟨h0, by show _ < (arrV _ _ _).slots.size; rw [arrV_size]; exact hlt⟩ g1 (fun q h => by rw [h] at g3; cases g3) (by rw [g2]; exact hkC) (by rw [g2]; exact va_assign hcls) rfl rfl hd fun H' e1 e2 e3 => ?_
  refine k r hr ls hl H' _ cells slots ⟨hRel.arr (f := f) (o := o) (w' := pE w f o (ix i) v) hk3 hne rfl rfl rfl rfl rfl rfl (fun f' o' hs => jcn_same rfl rfl (u2_n _ _ hs)) ?_ (by rw [jsh_size, jsh_size, e2]) (jsh_oth hne e3), fun q hq => ?_, hce, hsl0⟩
  · rw [jsh_at hne, e1, jcn_e (Or.inl hk), hk, vp_cell_q, arrV_store]
    rw [show jE (pE w f o (ix i) v) f o = _ from u2_s _ _ _ _]
    congr 2
    funext q
    by_cases hq : q = ix i
    · subst hq
      unfold updV va_up
      rw [if_pos rfl, if_pos rfl, jro_rf, jrv_ne hv0]
    · unfold updV va_up
      rw [if_neg hq, if_neg hq]
  · rcases List.mem_append.mp hq with hq | hq
    · exact hlo q hq
    · rw [List.mem_singleton.mp hq]
      exact hlow
theorem j_nwE {n : Int32} {ci : Nat} (hx : jOK x own cc nL) (hf : jFW own idx f) (hw : jWr x own f) (hk : jkd f = 7) (hC : jC w o = f / 100) (h0 : f / 100 ≠ 0) (hn : ∀ v, narrow (jtp f) (jrv v) = jrv v) (hfit : ∀ v, fits (jtp f) (jrv v) = true) (hcl : Cond.classLink own ci "CodeLayout$Machine" ∈ lw_all) (hov : Cond.arrayOver (.object "CodeLayout$Machine") ∈ lw_tbl) (hd : decode cc pc = .ok (.anewarray ci, 3)) (hd2 : decode cc (pc + 3) = .ok (.putfield idx, 3)) (hr : jra w n)
    (k : jJ x nL (pc + 3 + 3) lv st (nwE w f o (ix n)) mm en) : jJ x nL pc lv (vI n :: vR o :: st) w mm en := by
  obtain ⟨p, l, e, R, s, m, args, below, meth, c', D, ac, H0⟩ := x
  have hxx := hx
  obtain ⟨hx, hb, -, -, hown, ⟨hts, htn⟩, hK⟩ := hx
  intro r hr' ls hl H locs cells slots hG
  obtain ⟨hRel, hlo, hce, hsl0⟩ := hG
  obtain ⟨r1, r2, r3, r4⟩ := hr
  have hc0 : jC w o ≠ 0 := by rw [hC]; exact h0
  have ho := hRel.ne hc0
  have hox := hRel.lt hc0
  have hOB := (t_OB_sh ho).mp (hRel.2.2.2.2.1 o hc0).2
  have hlow : H0.size ≤ o - 1 := by have := (hRel.2.2.2.2.1 o hc0).1; rw [jsh_size] at this; omega
  rw [hC] at hOB
  show Jvm.Pilot.CCodeLayoutLaw_law_r9976_571ee0.W p l e R s m args below meth c' H locs cells slots _ (F0 m pc ls (.int n :: jrv o :: st.map jpv))
  rw [jrv_ne ho]
  refine W.anew hx hb hown (hts _ hcl) (va_AO.use (htn _ hov rfl)) rfl hd rfl r1 (Nat.le_trans (Nat.mul_le_mul_right 4 r2) (by decide)) (by omega) (Nat.le_trans (Nat.add_le_add_left r4 _) hsl0) fun cA kA comp f1 f2 f3 f4 => ?_
  generalize hH1 : H.push ({ cls := cA, slots := Array.replicate n.toNatClampNeg .null, vm := .none } : Cell) = H1
  have z1 : H1.size = H.size + 1 := by rw [← hH1, Array.size_push]
  have o1 : ∀ q, q < H.size → H1[q]? = H[q]? := fun q hq => by rw [← hH1, Array.getElem?_push, if_neg (by omega)]
  have e1 : H1[H.size]? = some (arrV cA n.toNatClampNeg (fun _ => .null)) := by rw [← hH1, Array.getElem?_push_size, ← arrV_new]
  have hsz : H.size + 1 = jX w := by have := hRel.2.1; rw [jsh_size] at this; exact this
  have hsz' : H.size = jX w - 1 := by omega
  have hX : jX w ≠ 0 := by omega
  have hcell : H1[jX w - 1]? = some (vp_cell (ac (jkd f)) (ix n, .inr (.inr (.inr (.inr (fun _ => none)))))) := by
    obtain ⟨kA', comp', -, -, -, k4⟩ := (hK.2 7 _ rfl).2
    rw [← hsz', e1, hk, show ac 7 = cA from Option.some.inj (k4.symm.trans f1)]
    rfl
  rw [hsz']
  refine jput hxx hf hw (hOB.kept (o1 (o - 1) (by omega))) hd2 (by have := hn (jX w); rw [jrv_ne hX] at this; exact this) (by have := hfit (jX w); rw [jrv_ne hX] at this; exact this) fun H2 sl hT z2 o2 => ?_
  have hRel' : jRel D ac (jsh H0) (nwE w f o (ix n)) (jsh H2) := by
    refine hRel.newf (f := f) (o := o) (n := ix n) (by omega) hC h0 rfl rfl rfl rfl rfl rfl (fun f' o' hs => jcn_same rfl rfl (u2_n _ _ hs)) ((t_OB_sh ho).mpr hT) ?_ (by rw [jsh_size, jsh_size, z2, z1]) (fun q h1 h2 => by
      rw [jsh_size] at h1
      by_cases h0' : q = 0
      · rw [h0']; exact jsh_0 _ _
      · rw [jsh_at h0', jsh_at h0', o2 (q - 1) (by omega)]; exact o1 (q - 1) (by omega))
    rw [jsh_at hX, o2 _ (by omega), hcell, jcn_e (Or.inl hk)]
    rw [show jE (nwE w f o (ix n)) f o = _ from u2_s _ _ _ _]
    rfl
  refine k r hr' ls hl H2 _ (cells + 1) (slots + ix n) ⟨hRel', fun q hq => ?_, ?_, ?_⟩
  · rcases List.mem_append.mp hq with hq | hq
    · exact hlo q hq
    · rw [List.mem_singleton.mp hq]
      exact hlow
  · show cells + 1 + (jF w - 1) ≤ R.cells
    omega
  · show slots + ix n + (jS w - ix n) ≤ R.slots
    omega
theorem j_newB {n : Int32} {at_ : ArrayType} (hx : jOK x own cc nL) (hf : 9000 ≤ f) (hk : jkd f = 6) (ha : jat (jkd f) at_) (hd : decode cc pc = .ok (.newarray at_, 2)) (hr : jra w n) (k : jJ x nL (pc + 2) lv (vR (jX w) :: st) (nwB w f (jX w) (ix n)) mm en) : jJ x nL pc lv (vI n :: st) w mm en := by
  obtain ⟨p, l, e, R, s, m, args, below, meth, c', D, ac, H0⟩ := x
  obtain ⟨hx, hb, -, -, hown, ⟨hts, htn⟩, hK⟩ := hx
  intro r hr' ls hl H locs cells slots hG
  obtain ⟨hRel, hlo, hce, hsl0⟩ := hG
  obtain ⟨r1, r2, r3, r4⟩ := hr
  refine va_newaK hx hb (hts _ ha.1) rfl hd rfl r1 rfl (Nat.le_trans (Nat.mul_le_mul r2 ha.2.1) (by decide)) (by omega) (Nat.le_trans (Nat.add_le_add_left r4 _) hsl0) (h := jX w - 1) (by have := hRel.2.1; rw [jsh_size] at this; omega) fun H1 cA e1 z1 o1 hAr hNm => ?_
  have hsz : H.size + 1 = jX w := by have := hRel.2.1; rw [jsh_size] at this; exact this
  have hX : jX w ≠ 0 := by omega
  have hcell : H1[jX w - 1]? = some (vp_cell (ac (jkd f)) (ix n, .inr (.inl (fun _ => 0)))) := by
    rcases ha.2.2 with ⟨h, ht⟩ | ⟨h, ht⟩ | ⟨h, ht⟩ | ⟨h, ht⟩
    · omega
    · omega
    · omega
    · rw [ht] at e1 hNm
      rw [e1, h, show ac 6 = cA from Option.some.inj (((hK.2 6 _ rfl).2 : s.vm.findClass _ = some (ac 6)).symm.trans hNm)]
      rfl
  have hRel' : jRel D ac (jsh H0) (nwB w f (jX w) (ix n)) (jsh H1) := by
    refine hRel.newa (f := f) (n := ix n) (by omega) hf rfl rfl rfl rfl rfl rfl (fun f' o' hs => jcn_same rfl (u2_n _ _ hs) rfl) ?_ (by rw [jsh_size, jsh_size, z1]; omega) (by rw [jsh_size]; exact jsh_lt (n := H.size) (fun q hq => o1 q (by omega)))
    rw [jsh_at hX, hcell, jcn_l hk]
    exact congrArg (fun z => some (vp_cell (ac (jkd f)) (ix n, Sum.inr (Sum.inl z)))) (u2_s _ _ _ _).symm
  have hk := k r hr' ls hl H1 locs (cells + 1) (slots + ix n) ⟨hRel', hlo, ?_, ?_⟩
  · have hk : Jvm.Pilot.CCodeLayoutLaw_law_r9976_571ee0.W p l e R s m args below meth c' H1 locs (cells + 1) (slots + ix n) _ (F0 m (pc + 2) ls (jrv (jX w) :: st.map jpv)) := hk
    rw [jrv_ne hX] at hk
    exact hk
  · show cells + 1 + (jF w - 1) ≤ R.cells
    omega
  · show slots + ix n + (jS w - ix n) ≤ R.slots
    omega
theorem j_attB {a : Nat} (hx : jOK x own cc nL) (hf : jFW own idx f) (hw : jWr x own f) (hk : jkd f = 6) (hlt : f < 9000) (hC : jC w o = f / 100) (h0 : f / 100 ≠ 0) (hn : ∀ v, narrow (jtp f) (jrv v) = jrv v) (hfit : ∀ v, fits (jtp f) (jrv v) = true) (hd : decode cc pc = .ok (.putfield idx, 3)) (hfr : jR w (9000 + jkd f) a = a ∧ a ≠ 0)
    (k : jJ x nL (pc + 3) lv st (atB w f o a) mm en) : jJ x nL pc lv (vR a :: vR o :: st) w mm en := by
  obtain ⟨p, l, e, R, s, m, args, below, meth, c', D, ac, H0⟩ := x
  intro r hr' ls hl H locs cells slots hG
  obtain ⟨hRel, hlo, hce, hsl0⟩ := hG
  have hc0 : jC w o ≠ 0 := by rw [hC]; exact h0
  have ho := hRel.ne hc0
  have hOB := (t_OB_sh ho).mp (hRel.2.2.2.2.1 o hc0).2
  have hlow : H0.size ≤ o - 1 := by have := (hRel.2.2.2.2.1 o hc0).1; rw [jsh_size] at this; omega
  rw [hC] at hOB
  show Jvm.Pilot.CCodeLayoutLaw_law_r9976_571ee0.W p l e R s m args below meth c' H locs cells slots _ (F0 m pc ls (jrv a :: jrv o :: st.map jpv))
  rw [jrv_ne ho, jrv_ne hfr.2]
  refine jput hx hf hw hOB hd (by have := hn a; rw [jrv_ne hfr.2] at this; exact this) (by have := hfit a; rw [jrv_ne hfr.2] at this; exact this) fun H2 sl hT z2 o2 => ?_
  refine k r hr' ls hl H2 _ cells slots ⟨hRel.attB hk hlt hC h0 hfr.1 hfr.2 ((t_OB_sh ho).mpr hT) (by rw [jsh_size, jsh_size, z2]) (jsh_oth ho o2), fun q hq => ?_, hce, hsl0⟩
  rcases List.mem_append.mp hq with hq | hq
  · exact hlo q hq
  · rw [List.mem_singleton.mp hq]
    exact hlow
theorem j_cpA {RF RL f2 o2 a a2 : Nat} {sp dp n : Int32} (hx : jOK x own cc nL) (hr : jRm x RF RL) (hlk : Cond.methodLink own idx arraycopyName ∈ lw_all) (hnat : Cond.native arraycopyName ∈ lw_all) (hst : Cond.static arraycopyName ∈ lw_all) (hini : Cond.initialized "java/lang/System" ∈ lw_all) (hd : decode cc pc = .ok (.invokestatic idx, 3)) (hk : jkd f = 3) (hk2 : jkd f2 = 3) (ha : jR w f o = a) (ha2 : jR w f2 o2 = a2) (hc : jcp w f o f2 o2 sp dp n) (hne0 : ¬ jR w f o = 0 ∧ ¬ jR w f2 o2 = 0) (hrf : 1 ≤ RF) (hrl : jws st + 60 ≤ RL)
    (k : jJ x nL (pc + 3) lv st (cpA w f o f2 o2 sp dp n) mm en) : jJ x nL pc lv (vI n :: vI dp :: vR a2 :: vI sp :: vR a :: st) w mm en := by
  obtain ⟨p, l, e, R, s, m, args, below, meth, c, D, ac, H0⟩ := x
  obtain ⟨hexec, hb, hml, -, hown, ⟨hts, htn⟩, hK⟩ := hx
  obtain ⟨hr1, hr2, -⟩ := hr
  obtain ⟨h1, h2, h3, h4, h5⟩ := hc
  have h4 : sp.toNatClampNeg + n.toNatClampNeg ≤ jN w f o := h4
  have h5 : dp.toNatClampNeg + n.toNatClampNeg ≤ jN w f2 o2 := h5
  intro r hr ls hl H locs cells slots hG
  obtain ⟨hRel, hlo, hce, hsl0⟩ := hG
  have hk3 : 3 ≤ jkd f := by omega
  have hk32 : 3 ≤ jkd f2 := by omega
  obtain ⟨-, -, hc0⟩ := hRel.2.2.2.2.2.1 f o hk3 hne0.1
  obtain ⟨hlow, -, hc1⟩ := hRel.2.2.2.2.2.1 f2 o2 hk32 hne0.2
  rw [jcn_i (by rw [hk]; decide), hk, jsh_at hne0.1] at hc0
  rw [jcn_i (by rw [hk2]; decide), hk2, jsh_at hne0.2] at hc1
  have hlow : H0.size ≤ jR w f2 o2 - 1 := by rw [jsh_size] at hlow; have := hne0.2; omega
  subst ha
  subst ha2
  have nn : ∀ z : Int32, ¬ z < 0 → z.toInt = (z.toNatClampNeg : Int) := by
    intro z hz
    have hz0 : (0 : Int) ≤ z.toInt := by
      have := Int32.not_lt.mp hz
      simpa using Int32.le_iff_toInt_le.mp this
    show z.toInt = ((z.toInt.toNat : Nat) : Int)
    omega
  show Jvm.Pilot.CCodeLayoutLaw_law_r9976_571ee0.W p l e R s m args below meth c H locs cells slots _ (F0 m pc ls (.int n :: .int dp :: jrv (jR w f2 o2) :: .int sp :: jrv (jR w f o) :: st.map jpv))
  rw [jrv_ne hne0.1, jrv_ne hne0.2]
  intro T hT X
  obtain ⟨-, k0, hk0, cm0, hkk0⟩ := (hK.2 3 _ rfl).1 (jN w f o) (fun j => .int (jA w f o j))
  obtain ⟨-, k1, hk1, cm1, hkk1⟩ := (hK.2 3 _ rfl).1 (jN w f2 o2) (fun j => .int (jA w f2 o2 j))
  obtain ⟨vm', X', step⟩ := X.arraycopy hexec hown (hts _ hlk) (hts _ hnat) (hts _ hst) (hts _ hini) (src := jR w f o - 1) (dst := jR w f2 o2 - 1) (cs := vp_cell (ac 3) (jN w f o, .inl (jA w f o))) (cd := vp_cell (ac 3) (jN w f2 o2, .inl (jA w f2 o2))) (srcPos := sp) (destPos := dp) (n := n) (by rw [hT]; exact hc0) (by rw [hT]; exact hc1)
    (fun _ h => by cases h) (fun _ h => by cases h) (fun h => by cases h) (fun h => by cases h) hk0 hk1 hkk0 hkk1 (by simp [refKind]) h1 h2 h3
    (by rw [nn sp h1, nn n h3]; show ¬ _ > ((arrV (ac 3) (jN w f o) (fun j => .int (jA w f o j))).slots.size : Int); rw [arrV_size]; omega)
    (by rw [nn dp h2, nn n h3]; show ¬ _ > ((arrV (ac 3) (jN w f2 o2) (fun j => .int (jA w f2 o2 j))).slots.size : Int); rw [arrV_size]; omega)
    (fun vm₁ _ i hi => by
      have e : (vp_cell (ac 3) (jN w f o, .inl (jA w f o))).slots.getD (sp.toNatClampNeg + i) .null = .int (jA w f o (sp.toNatClampNeg + i)) := by
        show (arrV (ac 3) (jN w f o) (fun j => .int (jA w f o j))).slots.getD _ _ = _
        rw [Array.getD_eq_getD_getElem?, arrV_read _ _ (by omega)]
        rfl
      refine ⟨?_, ?_⟩
      · rw [e]
        rfl
      · rw [e]
        exact trivial)
    (g := F0 m pc ls (.int n :: .int dp :: .ref (jR w f2 o2 - 1) :: .int sp :: .ref (jR w f o - 1) :: st.map jpv)) rfl (by show ls.size = _; rw [hml]; exact hl.1) (rest := st.map jpv) rfl (by rw [hb]; exact hd) (by omega) (by show 2 * 0 + ((st.map jpv).map fun v => v.category).sum + _ ≤ R.locals; rw [jws_sum]; have : nativeFrameWords "java/lang/System" "arraycopy" 5 + 11 ≤ 60 := (by decide); omega)
  have e1 : copied (vp_cell (ac 3) (jN w f o, .inl (jA w f o))) (vp_cell (ac 3) (jN w f2 o2, .inl (jA w f2 o2))) sp dp n = vp_cell (ac 3) (jN w f2 o2, .inl (va_cpy (jA w f o) (jA w f2 o2) sp.toNatClampNeg dp.toNatClampNeg n.toNatClampNeg)) := va_copied (fun z => .int z) (ac 3) (ac 3) (jA w f o) (jA w f2 o2) h4
  rw [e1] at X' step
  have hlt : jR w f2 o2 - 1 < H.size := (Array.getElem?_eq_some_iff.mp hc1).1
  generalize hcv : vp_cell (ac 3) (jN w f2 o2, .inl (va_cpy (jA w f o) (jA w f2 o2) sp.toNatClampNeg dp.toNatClampNeg n.toNatClampNeg)) = cv at X' step
  have hheap : ((T.setVm vm').setCell (jR w f2 o2 - 1) cv).heap = H.setIfInBounds (jR w f2 o2 - 1) cv := by rw [← hT]; rfl
  have oq : ∀ q : Nat, q ≠ jR w f2 o2 - 1 → (H.setIfInBounds (jR w f2 o2 - 1) cv)[q]? = H[q]? := fun q hq => by simp [Array.getElem?_setIfInBounds, Ne.symm hq]
  have e2 : (H.setIfInBounds (jR w f2 o2 - 1) cv)[jR w f2 o2 - 1]? = some cv := by simp [Array.getElem?_setIfInBounds, hlt]
  obtain ⟨t, a1, b1⟩ := k r hr ls hl (H.setIfInBounds (jR w f2 o2 - 1) cv) _ cells slots ⟨hRel.arr (f := f2) (o := o2) (w' := cpA w f o f2 o2 sp dp n) hk32 hne0.2 rfl rfl rfl rfl rfl rfl (fun f' o' hs => jcn_same (u2_n _ _ hs) rfl rfl) (by
      rw [jsh_at hne0.2, e2, ← hcv, jcn_i (by rw [hk2]; decide), hk2]
      rw [show jA (cpA w f o f2 o2 sp dp n) f2 o2 = _ from u2_s _ _ _ _]) (by rw [jsh_size, jsh_size]; simp) (jsh_oth hne0.2 oq), fun q hq => by
      rcases List.mem_append.mp hq with h | h
      · exact hlo q h
      · obtain ⟨z, -, hz⟩ := List.mem_map.mp h
        rw [← hz]
        exact hlow, hce, hsl0⟩ _ hheap X'
  exact ⟨t, step t a1, b1⟩
theorem j_cpY {RF RL f2 o2 a a2 : Nat} {sp dp n : Int32} (hx : jOK x own cc nL) (hr : jRm x RF RL) (hlk : Cond.methodLink own idx arraycopyName ∈ lw_all) (hnat : Cond.native arraycopyName ∈ lw_all) (hst : Cond.static arraycopyName ∈ lw_all) (hini : Cond.initialized "java/lang/System" ∈ lw_all) (hd : decode cc pc = .ok (.invokestatic idx, 3)) (hk : jkd f = 4) (hk2 : jkd f2 = 4) (ha : jR w f o = a) (ha2 : jR w f2 o2 = a2) (hc : jcp w f o f2 o2 sp dp n) (hfit : ∀ i, i < ix n → fits .byte (.int (jA w f o (ix sp + i))) = true) (hne0 : ¬ jR w f o = 0 ∧ ¬ jR w f2 o2 = 0) (hrf : 1 ≤ RF) (hrl : jws st + 60 ≤ RL)
    (k : jJ x nL (pc + 3) lv st (cpA w f o f2 o2 sp dp n) mm en) : jJ x nL pc lv (vI n :: vI dp :: vR a2 :: vI sp :: vR a :: st) w mm en := by
  obtain ⟨p, l, e, R, s, m, args, below, meth, c, D, ac, H0⟩ := x
  obtain ⟨hexec, hb, hml, -, hown, ⟨hts, htn⟩, hK⟩ := hx
  obtain ⟨hr1, hr2, -⟩ := hr
  obtain ⟨h1, h2, h3, h4, h5⟩ := hc
  have h4 : sp.toNatClampNeg + n.toNatClampNeg ≤ jN w f o := h4
  have h5 : dp.toNatClampNeg + n.toNatClampNeg ≤ jN w f2 o2 := h5
  intro r hr ls hl H locs cells slots hG
  obtain ⟨hRel, hlo, hce, hsl0⟩ := hG
  have hk3 : 3 ≤ jkd f := by omega
  have hk32 : 3 ≤ jkd f2 := by omega
  obtain ⟨-, -, hc0⟩ := hRel.2.2.2.2.2.1 f o hk3 hne0.1
  obtain ⟨hlow, -, hc1⟩ := hRel.2.2.2.2.2.1 f2 o2 hk32 hne0.2
  rw [jcn_i (by rw [hk]; decide), hk, jsh_at hne0.1] at hc0
  rw [jcn_i (by rw [hk2]; decide), hk2, jsh_at hne0.2] at hc1
  have hlow : H0.size ≤ jR w f2 o2 - 1 := by rw [jsh_size] at hlow; have := hne0.2; omega
  subst ha
  subst ha2
  have nn : ∀ z : Int32, ¬ z < 0 → z.toInt = (z.toNatClampNeg : Int) := by
    intro z hz
    have hz0 : (0 : Int) ≤ z.toInt := by
      have := Int32.not_lt.mp hz
      simpa using Int32.le_iff_toInt_le.mp this
    show z.toInt = ((z.toInt.toNat : Nat) : Int)
    omega
  show Jvm.Pilot.CCodeLayoutLaw_law_r9976_571ee0.W p l e R s m args below meth c H locs cells slots _ (F0 m pc ls (.int n :: .int dp :: jrv (jR w f2 o2) :: .int sp :: jrv (jR w f o) :: st.map jpv))
  rw [jrv_ne hne0.1, jrv_ne hne0.2]
  intro T hT X
  obtain ⟨-, k0, hk0, cm0, hkk0⟩ := (hK.2 4 _ rfl).1 (jN w f o) (fun j => .int (jA w f o j))
  obtain ⟨-, k1, hk1, cm1, hkk1⟩ := (hK.2 4 _ rfl).1 (jN w f2 o2) (fun j => .int (jA w f2 o2 j))
  obtain ⟨vm', X', step⟩ := X.arraycopy hexec hown (hts _ hlk) (hts _ hnat) (hts _ hst) (hts _ hini) (src := jR w f o - 1) (dst := jR w f2 o2 - 1) (cs := vp_cell (ac 4) (jN w f o, .inl (jA w f o))) (cd := vp_cell (ac 4) (jN w f2 o2, .inl (jA w f2 o2))) (srcPos := sp) (destPos := dp) (n := n) (by rw [hT]; exact hc0) (by rw [hT]; exact hc1)
    (fun _ h => by cases h) (fun _ h => by cases h) (fun h => by cases h) (fun h => by cases h) hk0 hk1 hkk0 hkk1 (by simp [refKind]) h1 h2 h3
    (by rw [nn sp h1, nn n h3]; show ¬ _ > ((arrV (ac 4) (jN w f o) (fun j => .int (jA w f o j))).slots.size : Int); rw [arrV_size]; omega)
    (by rw [nn dp h2, nn n h3]; show ¬ _ > ((arrV (ac 4) (jN w f2 o2) (fun j => .int (jA w f2 o2 j))).slots.size : Int); rw [arrV_size]; omega)
    (fun vm₁ _ i hi => by
      have e : (vp_cell (ac 4) (jN w f o, .inl (jA w f o))).slots.getD (sp.toNatClampNeg + i) .null = .int (jA w f o (sp.toNatClampNeg + i)) := by
        show (arrV (ac 4) (jN w f o) (fun j => .int (jA w f o j))).slots.getD _ _ = _
        rw [Array.getD_eq_getD_getElem?, arrV_read _ _ (by omega)]
        rfl
      refine ⟨?_, ?_⟩
      · rw [e]
        exact hfit i hi
      · rw [e]
        exact trivial)
    (g := F0 m pc ls (.int n :: .int dp :: .ref (jR w f2 o2 - 1) :: .int sp :: .ref (jR w f o - 1) :: st.map jpv)) rfl (by show ls.size = _; rw [hml]; exact hl.1) (rest := st.map jpv) rfl (by rw [hb]; exact hd) (by omega) (by show 2 * 0 + ((st.map jpv).map fun v => v.category).sum + _ ≤ R.locals; rw [jws_sum]; have : nativeFrameWords "java/lang/System" "arraycopy" 5 + 11 ≤ 60 := (by decide); omega)
  have e1 : copied (vp_cell (ac 4) (jN w f o, .inl (jA w f o))) (vp_cell (ac 4) (jN w f2 o2, .inl (jA w f2 o2))) sp dp n = vp_cell (ac 4) (jN w f2 o2, .inl (va_cpy (jA w f o) (jA w f2 o2) sp.toNatClampNeg dp.toNatClampNeg n.toNatClampNeg)) := va_copied (fun z => .int z) (ac 4) (ac 4) (jA w f o) (jA w f2 o2) h4
  rw [e1] at X' step
  have hlt : jR w f2 o2 - 1 < H.size := (Array.getElem?_eq_some_iff.mp hc1).1
  generalize hcv : vp_cell (ac 4) (jN w f2 o2, .inl (va_cpy (jA w f o) (jA w f2 o2) sp.toNatClampNeg dp.toNatClampNeg n.toNatClampNeg)) = cv at X' step
  have hheap : ((T.setVm vm').setCell (jR w f2 o2 - 1) cv).heap = H.setIfInBounds (jR w f2 o2 - 1) cv := by rw [← hT]; rfl
  have oq : ∀ q : Nat, q ≠ jR w f2 o2 - 1 → (H.setIfInBounds (jR w f2 o2 - 1) cv)[q]? = H[q]? := fun q hq => by simp [Array.getElem?_setIfInBounds, Ne.symm hq]
  have e2 : (H.setIfInBounds (jR w f2 o2 - 1) cv)[jR w f2 o2 - 1]? = some cv := by simp [Array.getElem?_setIfInBounds, hlt]
  obtain ⟨t, a1, b1⟩ := k r hr ls hl (H.setIfInBounds (jR w f2 o2 - 1) cv) _ cells slots ⟨hRel.arr (f := f2) (o := o2) (w' := cpA w f o f2 o2 sp dp n) hk32 hne0.2 rfl rfl rfl rfl rfl rfl (fun f' o' hs => jcn_same (u2_n _ _ hs) rfl rfl) (by
      rw [jsh_at hne0.2, e2, ← hcv, jcn_i (by rw [hk2]; decide), hk2]
      rw [show jA (cpA w f o f2 o2 sp dp n) f2 o2 = _ from u2_s _ _ _ _]) (by rw [jsh_size, jsh_size]; simp) (jsh_oth hne0.2 oq), fun q hq => by
      rcases List.mem_append.mp hq with h | h
      · exact hlo q h
      · obtain ⟨z, -, hz⟩ := List.mem_map.mp h
        rw [← hz]
        exact hlow, hce, hsl0⟩ _ hheap X'
  exact ⟨t, step t a1, b1⟩
theorem j_cpB {RF RL f2 o2 a a2 : Nat} {sp dp n : Int32} (hx : jOK x own cc nL) (hr : jRm x RF RL) (hlk : Cond.methodLink own idx arraycopyName ∈ lw_all) (hnat : Cond.native arraycopyName ∈ lw_all) (hst : Cond.static arraycopyName ∈ lw_all) (hini : Cond.initialized "java/lang/System" ∈ lw_all) (hd : decode cc pc = .ok (.invokestatic idx, 3)) (hk : jkd f = 6) (hk2 : jkd f2 = 6) (ha : jR w f o = a) (ha2 : jR w f2 o2 = a2) (hc : jcp w f o f2 o2 sp dp n) (hne0 : ¬ jR w f o = 0 ∧ ¬ jR w f2 o2 = 0) (hrf : 1 ≤ RF) (hrl : jws st + 60 ≤ RL)
    (k : jJ x nL (pc + 3) lv st (cpB w f o f2 o2 sp dp n) mm en) : jJ x nL pc lv (vI n :: vI dp :: vR a2 :: vI sp :: vR a :: st) w mm en := by
  obtain ⟨p, l, e, R, s, m, args, below, meth, c, D, ac, H0⟩ := x
  obtain ⟨hexec, hb, hml, -, hown, ⟨hts, htn⟩, hK⟩ := hx
  obtain ⟨hr1, hr2, -⟩ := hr
  obtain ⟨h1, h2, h3, h4, h5⟩ := hc
  have h4 : sp.toNatClampNeg + n.toNatClampNeg ≤ jN w f o := h4
  have h5 : dp.toNatClampNeg + n.toNatClampNeg ≤ jN w f2 o2 := h5
  intro r hr ls hl H locs cells slots hG
  obtain ⟨hRel, hlo, hce, hsl0⟩ := hG
  have hk3 : 3 ≤ jkd f := by omega
  have hk32 : 3 ≤ jkd f2 := by omega
  obtain ⟨-, -, hc0⟩ := hRel.2.2.2.2.2.1 f o hk3 hne0.1
  obtain ⟨hlow, -, hc1⟩ := hRel.2.2.2.2.2.1 f2 o2 hk32 hne0.2
  rw [jcn_l hk, hk, jsh_at hne0.1] at hc0
  rw [jcn_l hk2, hk2, jsh_at hne0.2] at hc1
  have hlow : H0.size ≤ jR w f2 o2 - 1 := by rw [jsh_size] at hlow; have := hne0.2; omega
  subst ha
  subst ha2
  have nn : ∀ z : Int32, ¬ z < 0 → z.toInt = (z.toNatClampNeg : Int) := by
    intro z hz
    have hz0 : (0 : Int) ≤ z.toInt := by
      have := Int32.not_lt.mp hz
      simpa using Int32.le_iff_toInt_le.mp this
    show z.toInt = ((z.toInt.toNat : Nat) : Int)
    omega
  show Jvm.Pilot.CCodeLayoutLaw_law_r9976_571ee0.W p l e R s m args below meth c H locs cells slots _ (F0 m pc ls (.int n :: .int dp :: jrv (jR w f2 o2) :: .int sp :: jrv (jR w f o) :: st.map jpv))
  rw [jrv_ne hne0.1, jrv_ne hne0.2]
  intro T hT X
  obtain ⟨-, k0, hk0, cm0, hkk0⟩ := (hK.2 6 _ rfl).1 (jN w f o) (fun j => .long (jB w f o j))
  obtain ⟨-, k1, hk1, cm1, hkk1⟩ := (hK.2 6 _ rfl).1 (jN w f2 o2) (fun j => .long (jB w f2 o2 j))
  obtain ⟨vm', X', step⟩ := X.arraycopy hexec hown (hts _ hlk) (hts _ hnat) (hts _ hst) (hts _ hini) (src := jR w f o - 1) (dst := jR w f2 o2 - 1) (cs := vp_cell (ac 6) (jN w f o, .inr (.inl (jB w f o)))) (cd := vp_cell (ac 6) (jN w f2 o2, .inr (.inl (jB w f2 o2)))) (srcPos := sp) (destPos := dp) (n := n) (by rw [hT]; exact hc0) (by rw [hT]; exact hc1)
    (fun _ h => by cases h) (fun _ h => by cases h) (fun h => by cases h) (fun h => by cases h) hk0 hk1 hkk0 hkk1 (by simp [refKind]) h1 h2 h3
    (by rw [nn sp h1, nn n h3]; show ¬ _ > ((arrV (ac 6) (jN w f o) (fun j => .long (jB w f o j))).slots.size : Int); rw [arrV_size]; omega)
    (by rw [nn dp h2, nn n h3]; show ¬ _ > ((arrV (ac 6) (jN w f2 o2) (fun j => .long (jB w f2 o2 j))).slots.size : Int); rw [arrV_size]; omega)
    (fun vm₁ _ i hi => by
      have e : (vp_cell (ac 6) (jN w f o, .inr (.inl (jB w f o)))).slots.getD (sp.toNatClampNeg + i) .null = .long (jB w f o (sp.toNatClampNeg + i)) := by
        show (arrV (ac 6) (jN w f o) (fun j => .long (jB w f o j))).slots.getD _ _ = _
        rw [Array.getD_eq_getD_getElem?, arrV_read _ _ (by omega)]
        rfl
      refine ⟨?_, ?_⟩
      · rw [e]
        rfl
      · rw [e]
        exact trivial)
    (g := F0 m pc ls (.int n :: .int dp :: .ref (jR w f2 o2 - 1) :: .int sp :: .ref (jR w f o - 1) :: st.map jpv)) rfl (by show ls.size = _; rw [hml]; exact hl.1) (rest := st.map jpv) rfl (by rw [hb]; exact hd) (by omega) (by show 2 * 0 + ((st.map jpv).map fun v => v.category).sum + _ ≤ R.locals; rw [jws_sum]; have : nativeFrameWords "java/lang/System" "arraycopy" 5 + 11 ≤ 60 := (by decide); omega)
  have e1 : copied (vp_cell (ac 6) (jN w f o, .inr (.inl (jB w f o)))) (vp_cell (ac 6) (jN w f2 o2, .inr (.inl (jB w f2 o2)))) sp dp n = vp_cell (ac 6) (jN w f2 o2, .inr (.inl (va_cpy (jB w f o) (jB w f2 o2) sp.toNatClampNeg dp.toNatClampNeg n.toNatClampNeg))) := va_copied (fun z => .long z) (ac 6) (ac 6) (jB w f o) (jB w f2 o2) h4
  rw [e1] at X' step
  have hlt : jR w f2 o2 - 1 < H.size := (Array.getElem?_eq_some_iff.mp hc1).1
  generalize hcv : vp_cell (ac 6) (jN w f2 o2, .inr (.inl (va_cpy (jB w f o) (jB w f2 o2) sp.toNatClampNeg dp.toNatClampNeg n.toNatClampNeg))) = cv at X' step
  have hheap : ((T.setVm vm').setCell (jR w f2 o2 - 1) cv).heap = H.setIfInBounds (jR w f2 o2 - 1) cv := by rw [← hT]; rfl
  have oq : ∀ q : Nat, q ≠ jR w f2 o2 - 1 → (H.setIfInBounds (jR w f2 o2 - 1) cv)[q]? = H[q]? := fun q hq => by simp [Array.getElem?_setIfInBounds, Ne.symm hq]
  have e2 : (H.setIfInBounds (jR w f2 o2 - 1) cv)[jR w f2 o2 - 1]? = some cv := by simp [Array.getElem?_setIfInBounds, hlt]
  obtain ⟨t, a1, b1⟩ := k r hr ls hl (H.setIfInBounds (jR w f2 o2 - 1) cv) _ cells slots ⟨hRel.arr (f := f2) (o := o2) (w' := cpB w f o f2 o2 sp dp n) hk32 hne0.2 rfl rfl rfl rfl rfl rfl (fun f' o' hs => jcn_same rfl (u2_n _ _ hs) rfl) (by
      rw [jsh_at hne0.2, e2, ← hcv, jcn_l hk2, hk2]
      rw [show jB (cpB w f o f2 o2 sp dp n) f2 o2 = _ from u2_s _ _ _ _]) (by rw [jsh_size, jsh_size]; simp) (jsh_oth hne0.2 oq), fun q hq => by
      rcases List.mem_append.mp hq with h | h
      · exact hlo q h
      · obtain ⟨z, -, hz⟩ := List.mem_map.mp h
        rw [← hz]
        exact hlow, hce, hsl0⟩ _ hheap X'
  exact ⟨t, step t a1, b1⟩
end JMO
