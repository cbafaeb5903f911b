/-! ===== branches ===== -/
theorem jro_inj {a b : Nat} (h : jro a = jro b) : a = b := by
  unfold jro at h
  split at h <;> split at h <;> (try cases h) <;> (try simp only [Option.some.injEq] at h) <;> omega
section JC
variable {α : Type} {x : jCx} {own : String} {cc : ByteArray} {nL pc : Nat} {lv : List (Nat × jV)} {st : List jV} {w : jW} {en : α → Option (Outcome × jW)} {off : Int} {tgt : Nat} {A B : Option α}
theorem j_icmp_eq (hx : jOK x own cc nL) {u v : Int32} (hd : decode cc pc = .ok (.if_icmp .eq off, 3)) (ht : (pc : Int) + off = (tgt : Int)) (kt : u = v → jJ x nL tgt lv st w A en) (kf : ¬ u = v → jJ x nL (pc + 3) lv st w B en) : jJ x nL pc lv (vI v :: vI u :: st) w (if u = v then A else B) en := by
  obtain ⟨p, l, e, R, s, m, args, below, meth, c, D, ac, H0⟩ := x
  obtain ⟨hx, hb, -⟩ := hx
  intro r hr ls hl H locs cells slots hG
  exact lv_icmp_eq hx hb hd ht (fun h => kt h r (by rw [if_pos h] at hr; exact hr) ls hl H locs cells slots hG) (fun h => kf h r (by rw [if_neg h] at hr; exact hr) ls hl H locs cells slots hG)
theorem j_icmp_ne (hx : jOK x own cc nL) {u v : Int32} (hd : decode cc pc = .ok (.if_icmp .ne off, 3)) (ht : (pc : Int) + off = (tgt : Int)) (kt : ¬ u = v → jJ x nL tgt lv st w B en) (kf : u = v → jJ x nL (pc + 3) lv st w A en) : jJ x nL pc lv (vI v :: vI u :: st) w (if u = v then A else B) en := by
  obtain ⟨p, l, e, R, s, m, args, below, meth, c, D, ac, H0⟩ := x
  obtain ⟨hx, hb, -⟩ := hx
  intro r hr ls hl H locs cells slots hG
  exact lv_icmp_ne hx hb hd ht (fun h => kt h r (by rw [if_neg h] at hr; exact hr) ls hl H locs cells slots hG) (fun h => kf h r (by rw [if_pos h] at hr; exact hr) ls hl H locs cells slots hG)
theorem j_icmp_lt (hx : jOK x own cc nL) {u v : Int32} (hd : decode cc pc = .ok (.if_icmp .lt off, 3)) (ht : (pc : Int) + off = (tgt : Int)) (kt : u < v → jJ x nL tgt lv st w A en) (kf : ¬ u < v → jJ x nL (pc + 3) lv st w B en) : jJ x nL pc lv (vI v :: vI u :: st) w (if u < v then A else B) en := by
  obtain ⟨p, l, e, R, s, m, args, below, meth, c, D, ac, H0⟩ := x
  obtain ⟨hx, hb, -⟩ := hx
  intro r hr ls hl H locs cells slots hG
  exact lv_icmp_lt hx hb hd ht (fun h => kt h r (by rw [if_pos h] at hr; exact hr) ls hl H locs cells slots hG) (fun h => kf h r (by rw [if_neg h] at hr; exact hr) ls hl H locs cells slots hG)
theorem j_icmp_ge (hx : jOK x own cc nL) {u v : Int32} (hd : decode cc pc = .ok (.if_icmp .ge off, 3)) (ht : (pc : Int) + off = (tgt : Int)) (kt : ¬ u < v → jJ x nL tgt lv st w B en) (kf : u < v → jJ x nL (pc + 3) lv st w A en) : jJ x nL pc lv (vI v :: vI u :: st) w (if u < v then A else B) en := by
  obtain ⟨p, l, e, R, s, m, args, below, meth, c, D, ac, H0⟩ := x
  obtain ⟨hx, hb, -⟩ := hx
  intro r hr ls hl H locs cells slots hG
  exact lv_icmp_ge hx hb hd ht (fun h => have h := Int32.not_lt.mpr h; kt h r (by rw [if_neg h] at hr; exact hr) ls hl H locs cells slots hG) (fun h => have h := Int32.not_le.mp h; kf h r (by rw [if_pos h] at hr; exact hr) ls hl H locs cells slots hG)
theorem j_icmp_gt (hx : jOK x own cc nL) {u v : Int32} (hd : decode cc pc = .ok (.if_icmp .gt off, 3)) (ht : (pc : Int) + off = (tgt : Int)) (kt : v < u → jJ x nL tgt lv st w A en) (kf : ¬ v < u → jJ x nL (pc + 3) lv st w B en) : jJ x nL pc lv (vI v :: vI u :: st) w (if v < u then A else B) en := by
  obtain ⟨p, l, e, R, s, m, args, below, meth, c, D, ac, H0⟩ := x
  obtain ⟨hx, hb, -⟩ := hx
  intro r hr ls hl H locs cells slots hG
  exact lv_icmp_gt hx hb hd ht (fun h => kt h r (by rw [if_pos h] at hr; exact hr) ls hl H locs cells slots hG) (fun h => kf h r (by rw [if_neg h] at hr; exact hr) ls hl H locs cells slots hG)
theorem j_icmp_le (hx : jOK x own cc nL) {u v : Int32} (hd : decode cc pc = .ok (.if_icmp .le off, 3)) (ht : (pc : Int) + off = (tgt : Int)) (kt : ¬ v < u → jJ x nL tgt lv st w B en) (kf : v < u → jJ x nL (pc + 3) lv st w A en) : jJ x nL pc lv (vI v :: vI u :: st) w (if v < u then A else B) en := by
  obtain ⟨p, l, e, R, s, m, args, below, meth, c, D, ac, H0⟩ := x
  obtain ⟨hx, hb, -⟩ := hx
  intro r hr ls hl H locs cells slots hG
  exact lv_icmp_le hx hb hd ht (fun h => have h := Int32.not_lt.mpr h; kt h r (by rw [if_neg h] at hr; exact hr) ls hl H locs cells slots hG) (fun h => have h := Int32.not_le.mp h; kf h r (by rw [if_pos h] at hr; exact hr) ls hl H locs cells slots hG)
theorem j_if_eq (hx : jOK x own cc nL) {u : Int32} (hd : decode cc pc = .ok (.ifCond .eq off, 3)) (ht : (pc : Int) + off = (tgt : Int)) (kt : u = (0 : Int32) → jJ x nL tgt lv st w A en) (kf : ¬ u = (0 : Int32) → jJ x nL (pc + 3) lv st w B en) : jJ x nL pc lv (vI u :: st) w (if u = (0 : Int32) then A else B) en := by
  obtain ⟨p, l, e, R, s, m, args, below, meth, c, D, ac, H0⟩ := x
  obtain ⟨hx, hb, -⟩ := hx
  intro r hr ls hl H locs cells slots hG
  exact lv_if_eq hx hb hd ht (fun h => kt h r (by rw [if_pos h] at hr; exact hr) ls hl H locs cells slots hG) (fun h => kf h r (by rw [if_neg h] at hr; exact hr) ls hl H locs cells slots hG)
theorem j_if_ne (hx : jOK x own cc nL) {u : Int32} (hd : decode cc pc = .ok (.ifCond .ne off, 3)) (ht : (pc : Int) + off = (tgt : Int)) (kt : ¬ u = (0 : Int32) → jJ x nL tgt lv st w B en) (kf : u = (0 : Int32) → jJ x nL (pc + 3) lv st w A en) : jJ x nL pc lv (vI u :: st) w (if u = (0 : Int32) then A else B) en := by
  obtain ⟨p, l, e, R, s, m, args, below, meth, c, D, ac, H0⟩ := x
  obtain ⟨hx, hb, -⟩ := hx
  intro r hr ls hl H locs cells slots hG
  exact lv_if_ne hx hb hd ht (fun h => kt h r (by rw [if_neg h] at hr; exact hr) ls hl H locs cells slots hG) (fun h => kf h r (by rw [if_pos h] at hr; exact hr) ls hl H locs cells slots hG)
theorem j_if_lt (hx : jOK x own cc nL) {u : Int32} (hd : decode cc pc = .ok (.ifCond .lt off, 3)) (ht : (pc : Int) + off = (tgt : Int)) (kt : u < (0 : Int32) → jJ x nL tgt lv st w A en) (kf : ¬ u < (0 : Int32) → jJ x nL (pc + 3) lv st w B en) : jJ x nL pc lv (vI u :: st) w (if u < (0 : Int32) then A else B) en := by
  obtain ⟨p, l, e, R, s, m, args, below, meth, c, D, ac, H0⟩ := x
  obtain ⟨hx, hb, -⟩ := hx
  intro r hr ls hl H locs cells slots hG
  exact lv_if_lt hx hb hd ht (fun h => kt h r (by rw [if_pos h] at hr; exact hr) ls hl H locs cells slots hG) (fun h => kf h r (by rw [if_neg h] at hr; exact hr) ls hl H locs cells slots hG)
theorem j_if_ge (hx : jOK x own cc nL) {u : Int32} (hd : decode cc pc = .ok (.ifCond .ge off, 3)) (ht : (pc : Int) + off = (tgt : Int)) (kt : ¬ u < (0 : Int32) → jJ x nL tgt lv st w B en) (kf : u < (0 : Int32) → jJ x nL (pc + 3) lv st w A en) : jJ x nL pc lv (vI u :: st) w (if u < (0 : Int32) then A else B) en := by
  obtain ⟨p, l, e, R, s, m, args, below, meth, c, D, ac, H0⟩ := x
  obtain ⟨hx, hb, -⟩ := hx
  intro r hr ls hl H locs cells slots hG
  exact lv_if_ge hx hb hd ht (fun h => have h := Int32.not_lt.mpr h; kt h r (by rw [if_neg h] at hr; exact hr) ls hl H locs cells slots hG) (fun h => have h := Int32.not_le.mp h; kf h r (by rw [if_pos h] at hr; exact hr) ls hl H locs cells slots hG)
theorem j_if_gt (hx : jOK x own cc nL) {u : Int32} (hd : decode cc pc = .ok (.ifCond .gt off, 3)) (ht : (pc : Int) + off = (tgt : Int)) (kt : (0 : Int32) < u → jJ x nL tgt lv st w A en) (kf : ¬ (0 : Int32) < u → jJ x nL (pc + 3) lv st w B en) : jJ x nL pc lv (vI u :: st) w (if (0 : Int32) < u then A else B) en := by
  obtain ⟨p, l, e, R, s, m, args, below, meth, c, D, ac, H0⟩ := x
  obtain ⟨hx, hb, -⟩ := hx
  intro r hr ls hl H locs cells slots hG
  exact lv_if_gt hx hb hd ht (fun h => kt h r (by rw [if_pos h] at hr; exact hr) ls hl H locs cells slots hG) (fun h => kf h r (by rw [if_neg h] at hr; exact hr) ls hl H locs cells slots hG)
theorem j_if_le (hx : jOK x own cc nL) {u : Int32} (hd : decode cc pc = .ok (.ifCond .le off, 3)) (ht : (pc : Int) + off = (tgt : Int)) (kt : ¬ (0 : Int32) < u → jJ x nL tgt lv st w B en) (kf : (0 : Int32) < u → jJ x nL (pc + 3) lv st w A en) : jJ x nL pc lv (vI u :: st) w (if (0 : Int32) < u then A else B) en := by
  obtain ⟨p, l, e, R, s, m, args, below, meth, c, D, ac, H0⟩ := x
  obtain ⟨hx, hb, -⟩ := hx
  intro r hr ls hl H locs cells slots hG
  exact lv_if_le hx hb hd ht (fun h => have h := Int32.not_lt.mpr h; kt h r (by rw [if_neg h] at hr; exact hr) ls hl H locs cells slots hG) (fun h => have h := Int32.not_le.mp h; kf h r (by rw [if_pos h] at hr; exact hr) ls hl H locs cells slots hG)
theorem j_lcmp_eq (hx : jOK x own cc nL) {u v : Int64} (hd0 : decode cc pc = .ok (.lcmp, 1)) (hd : decode cc (pc + 1) = .ok (.ifCond .eq off, 3)) (ht : ((pc + 1 : Nat) : Int) + off = (tgt : Int)) (kt : u = v → jJ x nL tgt lv st w A en) (kf : ¬ u = v → jJ x nL (pc + 1 + 3) lv st w B en) : jJ x nL pc lv (vL v :: vL u :: st) w (if u = v then A else B) en := by
  obtain ⟨p, l, e, R, s, m, args, below, meth, c, D, ac, H0⟩ := x
  obtain ⟨hx, hb, -⟩ := hx
  intro r hr ls hl H locs cells slots hG
  refine W.lcmp hx hb hd0 ?_
  exact lv_if_eq hx hb hd ht (fun h => have h := (lg_cmp_eq u v).mp h; kt h r (by rw [if_pos h] at hr; exact hr) ls hl H locs cells slots hG) (fun h => have h := fun q => h ((lg_cmp_eq u v).mpr q); kf h r (by rw [if_neg h] at hr; exact hr) ls hl H locs cells slots hG)
theorem j_lcmp_ne (hx : jOK x own cc nL) {u v : Int64} (hd0 : decode cc pc = .ok (.lcmp, 1)) (hd : decode cc (pc + 1) = .ok (.ifCond .ne off, 3)) (ht : ((pc + 1 : Nat) : Int) + off = (tgt : Int)) (kt : ¬ u = v → jJ x nL tgt lv st w B en) (kf : u = v → jJ x nL (pc + 1 + 3) lv st w A en) : jJ x nL pc lv (vL v :: vL u :: st) w (if u = v then A else B) en := by
  obtain ⟨p, l, e, R, s, m, args, below, meth, c, D, ac, H0⟩ := x
  obtain ⟨hx, hb, -⟩ := hx
  intro r hr ls hl H locs cells slots hG
  refine W.lcmp hx hb hd0 ?_
  exact lv_if_ne hx hb hd ht (fun h => have h := fun q => h ((lg_cmp_eq u v).mpr q); kt h r (by rw [if_neg h] at hr; exact hr) ls hl H locs cells slots hG) (fun h => have h := (lg_cmp_eq u v).mp h; kf h r (by rw [if_pos h] at hr; exact hr) ls hl H locs cells slots hG)
theorem j_lcmp_lt (hx : jOK x own cc nL) {u v : Int64} (hd0 : decode cc pc = .ok (.lcmp, 1)) (hd : decode cc (pc + 1) = .ok (.ifCond .lt off, 3)) (ht : ((pc + 1 : Nat) : Int) + off = (tgt : Int)) (kt : u < v → jJ x nL tgt lv st w A en) (kf : ¬ u < v → jJ x nL (pc + 1 + 3) lv st w B en) : jJ x nL pc lv (vL v :: vL u :: st) w (if u < v then A else B) en := by
  obtain ⟨p, l, e, R, s, m, args, below, meth, c, D, ac, H0⟩ := x
  obtain ⟨hx, hb, -⟩ := hx
  intro r hr ls hl H locs cells slots hG
  refine W.lcmp hx hb hd0 ?_
  exact lv_if_lt hx hb hd ht (fun h => have h := (lg_cmp_lt u v).mp h; kt h r (by rw [if_pos h] at hr; exact hr) ls hl H locs cells slots hG) (fun h => have h := fun q => h ((lg_cmp_lt u v).mpr q); kf h r (by rw [if_neg h] at hr; exact hr) ls hl H locs cells slots hG)
theorem j_lcmp_ge (hx : jOK x own cc nL) {u v : Int64} (hd0 : decode cc pc = .ok (.lcmp, 1)) (hd : decode cc (pc + 1) = .ok (.ifCond .ge off, 3)) (ht : ((pc + 1 : Nat) : Int) + off = (tgt : Int)) (kt : ¬ u < v → jJ x nL tgt lv st w B en) (kf : u < v → jJ x nL (pc + 1 + 3) lv st w A en) : jJ x nL pc lv (vL v :: vL u :: st) w (if u < v then A else B) en := by
  obtain ⟨p, l, e, R, s, m, args, below, meth, c, D, ac, H0⟩ := x
  obtain ⟨hx, hb, -⟩ := hx
  intro r hr ls hl H locs cells slots hG
  refine W.lcmp hx hb hd0 ?_
  exact lv_if_ge hx hb hd ht (fun h => have h := Int64.not_lt.mpr ((lg_cmp_ge u v).mp h); kt h r (by rw [if_neg h] at hr; exact hr) ls hl H locs cells slots hG) (fun h => have h := Int64.not_le.mp (fun q => h ((lg_cmp_ge u v).mpr q)); kf h r (by rw [if_pos h] at hr; exact hr) ls hl H locs cells slots hG)
theorem j_lcmp_gt (hx : jOK x own cc nL) {u v : Int64} (hd0 : decode cc pc = .ok (.lcmp, 1)) (hd : decode cc (pc + 1) = .ok (.ifCond .gt off, 3)) (ht : ((pc + 1 : Nat) : Int) + off = (tgt : Int)) (kt : v < u → jJ x nL tgt lv st w A en) (kf : ¬ v < u → jJ x nL (pc + 1 + 3) lv st w B en) : jJ x nL pc lv (vL v :: vL u :: st) w (if v < u then A else B) en := by
  obtain ⟨p, l, e, R, s, m, args, below, meth, c, D, ac, H0⟩ := x
  obtain ⟨hx, hb, -⟩ := hx
  intro r hr ls hl H locs cells slots hG
  refine W.lcmp hx hb hd0 ?_
  exact lv_if_gt hx hb hd ht (fun h => have h := (lg_cmp_gt u v).mp h; kt h r (by rw [if_pos h] at hr; exact hr) ls hl H locs cells slots hG) (fun h => have h := fun q => h ((lg_cmp_gt u v).mpr q); kf h r (by rw [if_neg h] at hr; exact hr) ls hl H locs cells slots hG)
theorem j_lcmp_le (hx : jOK x own cc nL) {u v : Int64} (hd0 : decode cc pc = .ok (.lcmp, 1)) (hd : decode cc (pc + 1) = .ok (.ifCond .le off, 3)) (ht : ((pc + 1 : Nat) : Int) + off = (tgt : Int)) (kt : ¬ v < u → jJ x nL tgt lv st w B en) (kf : v < u → jJ x nL (pc + 1 + 3) lv st w A en) : jJ x nL pc lv (vL v :: vL u :: st) w (if v < u then A else B) en := by
  obtain ⟨p, l, e, R, s, m, args, below, meth, c, D, ac, H0⟩ := x
  obtain ⟨hx, hb, -⟩ := hx
  intro r hr ls hl H locs cells slots hG
  refine W.lcmp hx hb hd0 ?_
  exact lv_if_le hx hb hd ht (fun h => have h := Int64.not_lt.mpr ((lg_cmp_le u v).mp h); kt h r (by rw [if_neg h] at hr; exact hr) ls hl H locs cells slots hG) (fun h => have h := Int64.not_le.mp (fun q => h ((lg_cmp_le u v).mpr q)); kf h r (by rw [if_pos h] at hr; exact hr) ls hl H locs cells slots hG)
theorem j_ifnull (hx : jOK x own cc nL) {a : Nat} (hd : decode cc pc = .ok (.ifnull off, 3)) (ht : (pc : Int) + off = (tgt : Int)) (kt : a = 0 → jJ x nL tgt lv st w A en) (kf : ¬ a = 0 → jJ x nL (pc + 3) lv st w B en) : jJ x nL pc lv (vR a :: st) w (if a = 0 then A else B) en := by
  obtain ⟨p, l, e, R, s, m, args, below, meth, c, D, ac, H0⟩ := x
  obtain ⟨hx, hb, -⟩ := hx
  intro r hr ls hl H locs cells slots hG
  by_cases h : a = 0
  · have k1 := kt h r (by rw [if_pos h] at hr; exact hr) ls hl H locs cells slots hG
    show W _ _ _ _ _ _ _ _ _ _ _ _ _ _ _ (F0 _ _ _ (jrv a :: _))
    rw [show jrv a = .null from if_pos h]
    exact lv_ifnullN hx hb hd ht k1
  · have k1 := kf h r (by rw [if_neg h] at hr; exact hr) ls hl H locs cells slots hG
    show W _ _ _ _ _ _ _ _ _ _ _ _ _ _ _ (F0 _ _ _ (jrv a :: _))
    rw [show jrv a = .ref (a - 1) from if_neg h]
    exact lv_ifnull hx hb hd k1
theorem j_ifnonnull (hx : jOK x own cc nL) {a : Nat} (hd : decode cc pc = .ok (.ifnonnull off, 3)) (ht : (pc : Int) + off = (tgt : Int)) (kt : a = 0 → jJ x nL (pc + 3) lv st w A en) (kf : ¬ a = 0 → jJ x nL tgt lv st w B en) : jJ x nL pc lv (vR a :: st) w (if a = 0 then A else B) en := by
  obtain ⟨p, l, e, R, s, m, args, below, meth, c, D, ac, H0⟩ := x
  obtain ⟨hx, hb, -⟩ := hx
  intro r hr ls hl H locs cells slots hG
  by_cases h : a = 0
  · have k1 := kt h r (by rw [if_pos h] at hr; exact hr) ls hl H locs cells slots hG
    show W _ _ _ _ _ _ _ _ _ _ _ _ _ _ _ (F0 _ _ _ (jrv a :: _))
    rw [show jrv a = .null from if_pos h]
    exact lv_ifnonnullN hx hb hd k1
  · have k1 := kf h r (by rw [if_neg h] at hr; exact hr) ls hl H locs cells slots hG
    show W _ _ _ _ _ _ _ _ _ _ _ _ _ _ _ (F0 _ _ _ (jrv a :: _))
    rw [show jrv a = .ref (a - 1) from if_neg h]
    exact lv_ifnonnull hx hb hd ht k1
theorem j_acmp_eq (hx : jOK x own cc nL) {a b : Nat} (hd : decode cc pc = .ok (.if_acmp .eq off, 3)) (ht : (pc : Int) + off = (tgt : Int)) (kt : a = b → jJ x nL tgt lv st w A en) (kf : ¬ a = b → jJ x nL (pc + 3) lv st w B en) : jJ x nL pc lv (vR b :: vR a :: st) w (if a = b then A else B) en := by
  obtain ⟨p, l, e, R, s, m, args, below, meth, c, D, ac, H0⟩ := x
  obtain ⟨hx, hb, -⟩ := hx
  intro r hr ls hl H locs cells slots hG
  show W _ _ _ _ _ _ _ _ _ _ _ _ _ _ _ (F0 _ _ _ (jrv b :: jrv a :: _))
  rw [← jro_rf a, ← jro_rf b]
  exact lv_acmp_eq hx hb hd ht (fun h => have h := jro_inj h; kt h r (by rw [if_pos h] at hr; exact hr) ls hl H locs cells slots hG) (fun h => have h := fun q => h (congrArg jro q); kf h r (by rw [if_neg h] at hr; exact hr) ls hl H locs cells slots hG)
theorem j_acmp_ne (hx : jOK x own cc nL) {a b : Nat} (hd : decode cc pc = .ok (.if_acmp .ne off, 3)) (ht : (pc : Int) + off = (tgt : Int)) (kt : ¬ a = b → jJ x nL tgt lv st w B en) (kf : a = b → jJ x nL (pc + 3) lv st w A en) : jJ x nL pc lv (vR b :: vR a :: st) w (if a = b then A else B) en := by
  obtain ⟨p, l, e, R, s, m, args, below, meth, c, D, ac, H0⟩ := x
  obtain ⟨hx, hb, -⟩ := hx
  intro r hr ls hl H locs cells slots hG
  show W _ _ _ _ _ _ _ _ _ _ _ _ _ _ _ (F0 _ _ _ (jrv b :: jrv a :: _))
  rw [← jro_rf a, ← jro_rf b]
  exact lv_acmp_ne hx hb hd ht (fun h => have h := fun q => h (congrArg jro q); kt h r (by rw [if_neg h] at hr; exact hr) ls hl H locs cells slots hG) (fun h => have h := jro_inj h; kf h r (by rw [if_pos h] at hr; exact hr) ls hl H locs cells slots hG)
end JC
