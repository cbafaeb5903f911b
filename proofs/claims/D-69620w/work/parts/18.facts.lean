/-! ===== fields, classes, methods as the rows take them ===== -/
set_option maxRecDepth 100000
theorem jWr_n {x : jCx} {own : String} {f : Nat} (h : ∀ (C : String) (T : u_T) (N : Nat), jcl[f / 100]? = some (C, T, N) → (T (f % 100)).2.2.2 = false) : jWr x own f := by
  obtain ⟨p, l, e, R, s, m, args, below, meth, c, D, ac, H0⟩ := x
  exact fun C T N hc => Or.inl (h C T N hc)
theorem jWr_i {x : jCx} {own : String} {f : Nat} {ret : Option FieldType} {hh : List (Nat × Nat × Nat × Nat)} (hm : jMt x "<init>" ret hh) (h : ∀ (C : String) (T : u_T) (N : Nat), jcl[f / 100]? = some (C, T, N) → (T (f % 100)).2.2.2 = true ∧ (T (f % 100)).1 = own) : jWr x own f := by
  obtain ⟨p, l, e, R, s, m, args, below, meth, c, D, ac, H0⟩ := x
  exact fun C T N hc => Or.inr ⟨(h C T N hc).1, hm.1, (h C T N hc).2⟩
theorem kd100 : jkd 100 = 4 := rfl
theorem kl100 : 2 ≤ jkd 100 := by rw [kd100]; decide
theorem ka100 : jkd 100 = 3 ∨ jkd 100 = 4 ∨ jkd 100 = 5 := Or.inr (Or.inl rfl)
theorem kg100 : 3 ≤ jkd 100 := by rw [kd100]; decide
theorem kh100 : jkd 100 ≤ 8 := by rw [kd100]; decide
theorem ja100_4 : jat (jkd 100) .byte := ⟨q340, by decide, Or.inr (Or.inl ⟨rfl, rfl⟩)⟩
theorem kd101 : jkd 101 = 0 := rfl
theorem kd102 : jkd 102 = 0 := rfl
theorem kd103 : jkd 103 = 0 := rfl
theorem kd104 : jkd 104 = 2 := rfl
theorem kl104 : 2 ≤ jkd 104 := by rw [kd104]; decide
theorem kd105 : jkd 105 = 2 := rfl
theorem kl105 : 2 ≤ jkd 105 := by rw [kd105]; decide
theorem kd106 : jkd 106 = 0 := rfl
theorem kd107 : jkd 107 = 0 := rfl
theorem kd108 : jkd 108 = 2 := rfl
theorem kl108 : 2 ≤ jkd 108 := by rw [kd108]; decide
theorem kd109 : jkd 109 = 2 := rfl
theorem kl109 : 2 ≤ jkd 109 := by rw [kd109]; decide
theorem kd110 : jkd 110 = 2 := rfl
theorem kl110 : 2 ≤ jkd 110 := by rw [kd110]; decide
theorem kd111 : jkd 111 = 2 := rfl
theorem kl111 : 2 ≤ jkd 111 := by rw [kd111]; decide
theorem kd112 : jkd 112 = 2 := rfl
theorem kl112 : 2 ≤ jkd 112 := by rw [kd112]; decide
theorem kd113 : jkd 113 = 2 := rfl
theorem kl113 : 2 ≤ jkd 113 := by rw [kd113]; decide
theorem kd114 : jkd 114 = 7 := rfl
theorem kl114 : 2 ≤ jkd 114 := by rw [kd114]; decide
theorem kg114 : 3 ≤ jkd 114 := by rw [kd114]; decide
theorem kh114 : jkd 114 ≤ 8 := by rw [kd114]; decide
theorem kd115 : jkd 115 = 0 := rfl
theorem kd116 : jkd 116 = 2 := rfl
theorem kl116 : 2 ≤ jkd 116 := by rw [kd116]; decide
theorem kd117 : jkd 117 = 2 := rfl
theorem kl117 : 2 ≤ jkd 117 := by rw [kd117]; decide
theorem kd118 : jkd 118 = 2 := rfl
theorem kl118 : 2 ≤ jkd 118 := by rw [kd118]; decide
theorem kd119 : jkd 119 = 2 := rfl
theorem kl119 : 2 ≤ jkd 119 := by rw [kd119]; decide
theorem kd120 : jkd 120 = 2 := rfl
theorem kl120 : 2 ≤ jkd 120 := by rw [kd120]; decide
theorem kd121 : jkd 121 = 2 := rfl
theorem kl121 : 2 ≤ jkd 121 := by rw [kd121]; decide
theorem kd122 : jkd 122 = 2 := rfl
theorem kl122 : 2 ≤ jkd 122 := by rw [kd122]; decide
theorem kd123 : jkd 123 = 0 := rfl
theorem kd200 : jkd 200 = 2 := rfl
theorem kl200 : 2 ≤ jkd 200 := by rw [kd200]; decide
theorem kd201 : jkd 201 = 2 := rfl
theorem kl201 : 2 ≤ jkd 201 := by rw [kd201]; decide
theorem kd202 : jkd 202 = 2 := rfl
theorem kl202 : 2 ≤ jkd 202 := by rw [kd202]; decide
theorem kd203 : jkd 203 = 0 := rfl
theorem kd204 : jkd 204 = 3 := rfl
theorem kl204 : 2 ≤ jkd 204 := by rw [kd204]; decide
theorem ka204 : jkd 204 = 3 ∨ jkd 204 = 4 ∨ jkd 204 = 5 := Or.inl rfl
theorem kg204 : 3 ≤ jkd 204 := by rw [kd204]; decide
theorem kh204 : jkd 204 ≤ 8 := by rw [kd204]; decide
theorem ja204_3 : jat (jkd 204) .int := ⟨q452, by decide, Or.inl ⟨rfl, rfl⟩⟩
theorem kd205 : jkd 205 = 3 := rfl
theorem kl205 : 2 ≤ jkd 205 := by rw [kd205]; decide
theorem ka205 : jkd 205 = 3 ∨ jkd 205 = 4 ∨ jkd 205 = 5 := Or.inl rfl
theorem kg205 : 3 ≤ jkd 205 := by rw [kd205]; decide
theorem kh205 : jkd 205 ≤ 8 := by rw [kd205]; decide
theorem ja205_3 : jat (jkd 205) .int := ⟨q452, by decide, Or.inl ⟨rfl, rfl⟩⟩
theorem kd206 : jkd 206 = 3 := rfl
theorem kl206 : 2 ≤ jkd 206 := by rw [kd206]; decide
theorem ka206 : jkd 206 = 3 ∨ jkd 206 = 4 ∨ jkd 206 = 5 := Or.inl rfl
theorem kg206 : 3 ≤ jkd 206 := by rw [kd206]; decide
theorem kh206 : jkd 206 ≤ 8 := by rw [kd206]; decide
theorem ja206_3 : jat (jkd 206) .int := ⟨q452, by decide, Or.inl ⟨rfl, rfl⟩⟩
theorem kd207 : jkd 207 = 3 := rfl
theorem kl207 : 2 ≤ jkd 207 := by rw [kd207]; decide
theorem ka207 : jkd 207 = 3 ∨ jkd 207 = 4 ∨ jkd 207 = 5 := Or.inl rfl
theorem kg207 : 3 ≤ jkd 207 := by rw [kd207]; decide
theorem kh207 : jkd 207 ≤ 8 := by rw [kd207]; decide
theorem ja207_3 : jat (jkd 207) .int := ⟨q452, by decide, Or.inl ⟨rfl, rfl⟩⟩
theorem kd208 : jkd 208 = 5 := rfl
theorem kl208 : 2 ≤ jkd 208 := by rw [kd208]; decide
theorem ka208 : jkd 208 = 3 ∨ jkd 208 = 4 ∨ jkd 208 = 5 := Or.inr (Or.inr rfl)
theorem kg208 : 3 ≤ jkd 208 := by rw [kd208]; decide
theorem kh208 : jkd 208 ≤ 8 := by rw [kd208]; decide
theorem ja208_5 : jat (jkd 208) .boolean := ⟨q454, by decide, Or.inr (Or.inr (Or.inl ⟨rfl, rfl⟩))⟩
theorem kd209 : jkd 209 = 2 := rfl
theorem kl209 : 2 ≤ jkd 209 := by rw [kd209]; decide
theorem kd210 : jkd 210 = 2 := rfl
theorem kl210 : 2 ≤ jkd 210 := by rw [kd210]; decide
theorem kd211 : jkd 211 = 2 := rfl
theorem kl211 : 2 ≤ jkd 211 := by rw [kd211]; decide
theorem kd212 : jkd 212 = 3 := rfl
theorem kl212 : 2 ≤ jkd 212 := by rw [kd212]; decide
theorem ka212 : jkd 212 = 3 ∨ jkd 212 = 4 ∨ jkd 212 = 5 := Or.inl rfl
theorem kg212 : 3 ≤ jkd 212 := by rw [kd212]; decide
theorem kh212 : jkd 212 ≤ 8 := by rw [kd212]; decide
theorem ja212_3 : jat (jkd 212) .int := ⟨q452, by decide, Or.inl ⟨rfl, rfl⟩⟩
theorem kd213 : jkd 213 = 2 := rfl
theorem kl213 : 2 ≤ jkd 213 := by rw [kd213]; decide
theorem kd214 : jkd 214 = 3 := rfl
theorem kl214 : 2 ≤ jkd 214 := by rw [kd214]; decide
theorem ka214 : jkd 214 = 3 ∨ jkd 214 = 4 ∨ jkd 214 = 5 := Or.inl rfl
theorem kg214 : 3 ≤ jkd 214 := by rw [kd214]; decide
theorem kh214 : jkd 214 ≤ 8 := by rw [kd214]; decide
theorem ja214_3 : jat (jkd 214) .int := ⟨q452, by decide, Or.inl ⟨rfl, rfl⟩⟩
theorem kd215 : jkd 215 = 3 := rfl
theorem kl215 : 2 ≤ jkd 215 := by rw [kd215]; decide
theorem ka215 : jkd 215 = 3 ∨ jkd 215 = 4 ∨ jkd 215 = 5 := Or.inl rfl
theorem kg215 : 3 ≤ jkd 215 := by rw [kd215]; decide
theorem kh215 : jkd 215 ≤ 8 := by rw [kd215]; decide
theorem ja215_3 : jat (jkd 215) .int := ⟨q452, by decide, Or.inl ⟨rfl, rfl⟩⟩
theorem kd216 : jkd 216 = 5 := rfl
theorem kl216 : 2 ≤ jkd 216 := by rw [kd216]; decide
theorem ka216 : jkd 216 = 3 ∨ jkd 216 = 4 ∨ jkd 216 = 5 := Or.inr (Or.inr rfl)
theorem kg216 : 3 ≤ jkd 216 := by rw [kd216]; decide
theorem kh216 : jkd 216 ≤ 8 := by rw [kd216]; decide
theorem ja216_5 : jat (jkd 216) .boolean := ⟨q454, by decide, Or.inr (Or.inr (Or.inl ⟨rfl, rfl⟩))⟩
theorem kd217 : jkd 217 = 0 := rfl
theorem kd300 : jkd 300 = 0 := rfl
theorem kd301 : jkd 301 = 0 := rfl
theorem kd302 : jkd 302 = 2 := rfl
theorem kl302 : 2 ≤ jkd 302 := by rw [kd302]; decide
theorem kd400 : jkd 400 = 2 := rfl
theorem kl400 : 2 ≤ jkd 400 := by rw [kd400]; decide
theorem kd401 : jkd 401 = 2 := rfl
theorem kl401 : 2 ≤ jkd 401 := by rw [kd401]; decide
theorem kd402 : jkd 402 = 0 := rfl
theorem kd403 : jkd 403 = 0 := rfl
theorem kd404 : jkd 404 = 1 := rfl
theorem kd405 : jkd 405 = 0 := rfl
theorem kd406 : jkd 406 = 0 := rfl
theorem kd407 : jkd 407 = 3 := rfl
theorem kl407 : 2 ≤ jkd 407 := by rw [kd407]; decide
theorem ka407 : jkd 407 = 3 ∨ jkd 407 = 4 ∨ jkd 407 = 5 := Or.inl rfl
theorem kg407 : 3 ≤ jkd 407 := by rw [kd407]; decide
theorem kh407 : jkd 407 ≤ 8 := by rw [kd407]; decide
theorem ja407_3 : jat (jkd 407) .int := ⟨q452, by decide, Or.inl ⟨rfl, rfl⟩⟩
theorem kd408 : jkd 408 = 6 := rfl
theorem kl408 : 2 ≤ jkd 408 := by rw [kd408]; decide
theorem kg408 : 3 ≤ jkd 408 := by rw [kd408]; decide
theorem kh408 : jkd 408 ≤ 8 := by rw [kd408]; decide
theorem ja408_6 : jat (jkd 408) .long := ⟨q453, by decide, Or.inr (Or.inr (Or.inr ⟨rfl, rfl⟩))⟩
theorem kd409 : jkd 409 = 3 := rfl
theorem kl409 : 2 ≤ jkd 409 := by rw [kd409]; decide
theorem ka409 : jkd 409 = 3 ∨ jkd 409 = 4 ∨ jkd 409 = 5 := Or.inl rfl
theorem kg409 : 3 ≤ jkd 409 := by rw [kd409]; decide
theorem kh409 : jkd 409 ≤ 8 := by rw [kd409]; decide
theorem ja409_3 : jat (jkd 409) .int := ⟨q452, by decide, Or.inl ⟨rfl, rfl⟩⟩
theorem kd410 : jkd 410 = 3 := rfl
theorem kl410 : 2 ≤ jkd 410 := by rw [kd410]; decide
theorem ka410 : jkd 410 = 3 ∨ jkd 410 = 4 ∨ jkd 410 = 5 := Or.inl rfl
theorem kg410 : 3 ≤ jkd 410 := by rw [kd410]; decide
theorem kh410 : jkd 410 ≤ 8 := by rw [kd410]; decide
theorem ja410_3 : jat (jkd 410) .int := ⟨q452, by decide, Or.inl ⟨rfl, rfl⟩⟩
theorem kd411 : jkd 411 = 3 := rfl
theorem kl411 : 2 ≤ jkd 411 := by rw [kd411]; decide
theorem ka411 : jkd 411 = 3 ∨ jkd 411 = 4 ∨ jkd 411 = 5 := Or.inl rfl
theorem kg411 : 3 ≤ jkd 411 := by rw [kd411]; decide
theorem kh411 : jkd 411 ≤ 8 := by rw [kd411]; decide
theorem ja411_3 : jat (jkd 411) .int := ⟨q452, by decide, Or.inl ⟨rfl, rfl⟩⟩
theorem kd412 : jkd 412 = 3 := rfl
theorem kl412 : 2 ≤ jkd 412 := by rw [kd412]; decide
theorem ka412 : jkd 412 = 3 ∨ jkd 412 = 4 ∨ jkd 412 = 5 := Or.inl rfl
theorem kg412 : 3 ≤ jkd 412 := by rw [kd412]; decide
theorem kh412 : jkd 412 ≤ 8 := by rw [kd412]; decide
theorem ja412_3 : jat (jkd 412) .int := ⟨q452, by decide, Or.inl ⟨rfl, rfl⟩⟩
theorem kd413 : jkd 413 = 6 := rfl
theorem kl413 : 2 ≤ jkd 413 := by rw [kd413]; decide
theorem kg413 : 3 ≤ jkd 413 := by rw [kd413]; decide
theorem kh413 : jkd 413 ≤ 8 := by rw [kd413]; decide
theorem ja413_6 : jat (jkd 413) .long := ⟨q453, by decide, Or.inr (Or.inr (Or.inr ⟨rfl, rfl⟩))⟩
theorem kd414 : jkd 414 = 3 := rfl
theorem kl414 : 2 ≤ jkd 414 := by rw [kd414]; decide
theorem ka414 : jkd 414 = 3 ∨ jkd 414 = 4 ∨ jkd 414 = 5 := Or.inl rfl
theorem kg414 : 3 ≤ jkd 414 := by rw [kd414]; decide
theorem kh414 : jkd 414 ≤ 8 := by rw [kd414]; decide
theorem ja414_3 : jat (jkd 414) .int := ⟨q452, by decide, Or.inl ⟨rfl, rfl⟩⟩
theorem kd415 : jkd 415 = 3 := rfl
theorem kl415 : 2 ≤ jkd 415 := by rw [kd415]; decide
theorem ka415 : jkd 415 = 3 ∨ jkd 415 = 4 ∨ jkd 415 = 5 := Or.inl rfl
theorem kg415 : 3 ≤ jkd 415 := by rw [kd415]; decide
theorem kh415 : jkd 415 ≤ 8 := by rw [kd415]; decide
theorem ja415_3 : jat (jkd 415) .int := ⟨q452, by decide, Or.inl ⟨rfl, rfl⟩⟩
theorem kd416 : jkd 416 = 3 := rfl
theorem kl416 : 2 ≤ jkd 416 := by rw [kd416]; decide
theorem ka416 : jkd 416 = 3 ∨ jkd 416 = 4 ∨ jkd 416 = 5 := Or.inl rfl
theorem kg416 : 3 ≤ jkd 416 := by rw [kd416]; decide
theorem kh416 : jkd 416 ≤ 8 := by rw [kd416]; decide
theorem ja416_3 : jat (jkd 416) .int := ⟨q452, by decide, Or.inl ⟨rfl, rfl⟩⟩
theorem kd417 : jkd 417 = 3 := rfl
theorem kl417 : 2 ≤ jkd 417 := by rw [kd417]; decide
theorem ka417 : jkd 417 = 3 ∨ jkd 417 = 4 ∨ jkd 417 = 5 := Or.inl rfl
theorem kg417 : 3 ≤ jkd 417 := by rw [kd417]; decide
theorem kh417 : jkd 417 ≤ 8 := by rw [kd417]; decide
theorem ja417_3 : jat (jkd 417) .int := ⟨q452, by decide, Or.inl ⟨rfl, rfl⟩⟩
theorem kd418 : jkd 418 = 0 := rfl
theorem kd419 : jkd 419 = 0 := rfl
theorem kd420 : jkd 420 = 6 := rfl
theorem kl420 : 2 ≤ jkd 420 := by rw [kd420]; decide
theorem kg420 : 3 ≤ jkd 420 := by rw [kd420]; decide
theorem kh420 : jkd 420 ≤ 8 := by rw [kd420]; decide
theorem ja420_6 : jat (jkd 420) .long := ⟨q453, by decide, Or.inr (Or.inr (Or.inr ⟨rfl, rfl⟩))⟩
theorem kd421 : jkd 421 = 5 := rfl
theorem kl421 : 2 ≤ jkd 421 := by rw [kd421]; decide
theorem ka421 : jkd 421 = 3 ∨ jkd 421 = 4 ∨ jkd 421 = 5 := Or.inr (Or.inr rfl)
theorem kg421 : 3 ≤ jkd 421 := by rw [kd421]; decide
theorem kh421 : jkd 421 ≤ 8 := by rw [kd421]; decide
theorem ja421_5 : jat (jkd 421) .boolean := ⟨q454, by decide, Or.inr (Or.inr (Or.inl ⟨rfl, rfl⟩))⟩
theorem kd500 : jkd 500 = 4 := rfl
theorem kl500 : 2 ≤ jkd 500 := by rw [kd500]; decide
theorem ka500 : jkd 500 = 3 ∨ jkd 500 = 4 ∨ jkd 500 = 5 := Or.inr (Or.inl rfl)
theorem kg500 : 3 ≤ jkd 500 := by rw [kd500]; decide
theorem kh500 : jkd 500 ≤ 8 := by rw [kd500]; decide
theorem ja500_4 : jat (jkd 500) .byte := ⟨q340, by decide, Or.inr (Or.inl ⟨rfl, rfl⟩)⟩
theorem kd501 : jkd 501 = 0 := rfl
theorem kd600 : jkd 600 = 3 := rfl
theorem kl600 : 2 ≤ jkd 600 := by rw [kd600]; decide
theorem ka600 : jkd 600 = 3 ∨ jkd 600 = 4 ∨ jkd 600 = 5 := Or.inl rfl
theorem kg600 : 3 ≤ jkd 600 := by rw [kd600]; decide
theorem kh600 : jkd 600 ≤ 8 := by rw [kd600]; decide
theorem ja600_3 : jat (jkd 600) .int := ⟨q452, by decide, Or.inl ⟨rfl, rfl⟩⟩
theorem kd601 : jkd 601 = 0 := rfl
theorem kd700 : jkd 700 = 2 := rfl
theorem kl700 : 2 ≤ jkd 700 := by rw [kd700]; decide
theorem kd701 : jkd 701 = 2 := rfl
theorem kl701 : 2 ≤ jkd 701 := by rw [kd701]; decide
theorem kd702 : jkd 702 = 6 := rfl
theorem kl702 : 2 ≤ jkd 702 := by rw [kd702]; decide
theorem kg702 : 3 ≤ jkd 702 := by rw [kd702]; decide
theorem kh702 : jkd 702 ≤ 8 := by rw [kd702]; decide
theorem ja702_6 : jat (jkd 702) .long := ⟨q453, by decide, Or.inr (Or.inr (Or.inr ⟨rfl, rfl⟩))⟩
theorem kd703 : jkd 703 = 3 := rfl
theorem kl703 : 2 ≤ jkd 703 := by rw [kd703]; decide
theorem ka703 : jkd 703 = 3 ∨ jkd 703 = 4 ∨ jkd 703 = 5 := Or.inl rfl
theorem kg703 : 3 ≤ jkd 703 := by rw [kd703]; decide
theorem kh703 : jkd 703 ≤ 8 := by rw [kd703]; decide
theorem ja703_3 : jat (jkd 703) .int := ⟨q452, by decide, Or.inl ⟨rfl, rfl⟩⟩
theorem kd800 : jkd 800 = 2 := rfl
theorem kl800 : 2 ≤ jkd 800 := by rw [kd800]; decide
theorem kd801 : jkd 801 = 2 := rfl
theorem kl801 : 2 ≤ jkd 801 := by rw [kd801]; decide
theorem kd802 : jkd 802 = 2 := rfl
theorem kl802 : 2 ≤ jkd 802 := by rw [kd802]; decide
theorem kd803 : jkd 803 = 6 := rfl
theorem kl803 : 2 ≤ jkd 803 := by rw [kd803]; decide
theorem kg803 : 3 ≤ jkd 803 := by rw [kd803]; decide
theorem kh803 : jkd 803 ≤ 8 := by rw [kd803]; decide
theorem ja803_6 : jat (jkd 803) .long := ⟨q453, by decide, Or.inr (Or.inr (Or.inr ⟨rfl, rfl⟩))⟩
theorem kd804 : jkd 804 = 2 := rfl
theorem kl804 : 2 ≤ jkd 804 := by rw [kd804]; decide
theorem kd805 : jkd 805 = 0 := rfl
theorem kd806 : jkd 806 = 5 := rfl
theorem kl806 : 2 ≤ jkd 806 := by rw [kd806]; decide
theorem ka806 : jkd 806 = 3 ∨ jkd 806 = 4 ∨ jkd 806 = 5 := Or.inr (Or.inr rfl)
theorem kg806 : 3 ≤ jkd 806 := by rw [kd806]; decide
theorem kh806 : jkd 806 ≤ 8 := by rw [kd806]; decide
theorem ja806_5 : jat (jkd 806) .boolean := ⟨q454, by decide, Or.inr (Or.inr (Or.inl ⟨rfl, rfl⟩))⟩
theorem kd807 : jkd 807 = 2 := rfl
theorem kl807 : 2 ≤ jkd 807 := by rw [kd807]; decide
theorem kd808 : jkd 808 = 3 := rfl
theorem kl808 : 2 ≤ jkd 808 := by rw [kd808]; decide
theorem ka808 : jkd 808 = 3 ∨ jkd 808 = 4 ∨ jkd 808 = 5 := Or.inl rfl
theorem kg808 : 3 ≤ jkd 808 := by rw [kd808]; decide
theorem kh808 : jkd 808 ≤ 8 := by rw [kd808]; decide
theorem ja808_3 : jat (jkd 808) .int := ⟨q452, by decide, Or.inl ⟨rfl, rfl⟩⟩
theorem kd809 : jkd 809 = 3 := rfl
theorem kl809 : 2 ≤ jkd 809 := by rw [kd809]; decide
theorem ka809 : jkd 809 = 3 ∨ jkd 809 = 4 ∨ jkd 809 = 5 := Or.inl rfl
theorem kg809 : 3 ≤ jkd 809 := by rw [kd809]; decide
theorem kh809 : jkd 809 ≤ 8 := by rw [kd809]; decide
theorem ja809_3 : jat (jkd 809) .int := ⟨q452, by decide, Or.inl ⟨rfl, rfl⟩⟩
theorem kd810 : jkd 810 = 3 := rfl
theorem kl810 : 2 ≤ jkd 810 := by rw [kd810]; decide
theorem ka810 : jkd 810 = 3 ∨ jkd 810 = 4 ∨ jkd 810 = 5 := Or.inl rfl
theorem kg810 : 3 ≤ jkd 810 := by rw [kd810]; decide
theorem kh810 : jkd 810 ≤ 8 := by rw [kd810]; decide
theorem ja810_3 : jat (jkd 810) .int := ⟨q452, by decide, Or.inl ⟨rfl, rfl⟩⟩
theorem kd811 : jkd 811 = 5 := rfl
theorem kl811 : 2 ≤ jkd 811 := by rw [kd811]; decide
theorem ka811 : jkd 811 = 3 ∨ jkd 811 = 4 ∨ jkd 811 = 5 := Or.inr (Or.inr rfl)
theorem kg811 : 3 ≤ jkd 811 := by rw [kd811]; decide
theorem kh811 : jkd 811 ≤ 8 := by rw [kd811]; decide
theorem ja811_5 : jat (jkd 811) .boolean := ⟨q454, by decide, Or.inr (Or.inr (Or.inl ⟨rfl, rfl⟩))⟩
theorem kd812 : jkd 812 = 6 := rfl
theorem kl812 : 2 ≤ jkd 812 := by rw [kd812]; decide
theorem kg812 : 3 ≤ jkd 812 := by rw [kd812]; decide
theorem kh812 : jkd 812 ≤ 8 := by rw [kd812]; decide
theorem ja812_6 : jat (jkd 812) .long := ⟨q453, by decide, Or.inr (Or.inr (Or.inr ⟨rfl, rfl⟩))⟩
theorem kd813 : jkd 813 = 2 := rfl
theorem kl813 : 2 ≤ jkd 813 := by rw [kd813]; decide
theorem kd814 : jkd 814 = 3 := rfl
theorem kl814 : 2 ≤ jkd 814 := by rw [kd814]; decide
theorem ka814 : jkd 814 = 3 ∨ jkd 814 = 4 ∨ jkd 814 = 5 := Or.inl rfl
theorem kg814 : 3 ≤ jkd 814 := by rw [kd814]; decide
theorem kh814 : jkd 814 ≤ 8 := by rw [kd814]; decide
theorem ja814_3 : jat (jkd 814) .int := ⟨q452, by decide, Or.inl ⟨rfl, rfl⟩⟩
theorem kd815 : jkd 815 = 3 := rfl
theorem kl815 : 2 ≤ jkd 815 := by rw [kd815]; decide
theorem ka815 : jkd 815 = 3 ∨ jkd 815 = 4 ∨ jkd 815 = 5 := Or.inl rfl
theorem kg815 : 3 ≤ jkd 815 := by rw [kd815]; decide
theorem kh815 : jkd 815 ≤ 8 := by rw [kd815]; decide
theorem ja815_3 : jat (jkd 815) .int := ⟨q452, by decide, Or.inl ⟨rfl, rfl⟩⟩
theorem kd816 : jkd 816 = 3 := rfl
theorem kl816 : 2 ≤ jkd 816 := by rw [kd816]; decide
theorem ka816 : jkd 816 = 3 ∨ jkd 816 = 4 ∨ jkd 816 = 5 := Or.inl rfl
theorem kg816 : 3 ≤ jkd 816 := by rw [kd816]; decide
theorem kh816 : jkd 816 ≤ 8 := by rw [kd816]; decide
theorem ja816_3 : jat (jkd 816) .int := ⟨q452, by decide, Or.inl ⟨rfl, rfl⟩⟩
theorem kd817 : jkd 817 = 6 := rfl
theorem kl817 : 2 ≤ jkd 817 := by rw [kd817]; decide
theorem kg817 : 3 ≤ jkd 817 := by rw [kd817]; decide
theorem kh817 : jkd 817 ≤ 8 := by rw [kd817]; decide
theorem ja817_6 : jat (jkd 817) .long := ⟨q453, by decide, Or.inr (Or.inr (Or.inr ⟨rfl, rfl⟩))⟩
theorem kd818 : jkd 818 = 6 := rfl
theorem kl818 : 2 ≤ jkd 818 := by rw [kd818]; decide
theorem kg818 : 3 ≤ jkd 818 := by rw [kd818]; decide
theorem kh818 : jkd 818 ≤ 8 := by rw [kd818]; decide
theorem ja818_6 : jat (jkd 818) .long := ⟨q453, by decide, Or.inr (Or.inr (Or.inr ⟨rfl, rfl⟩))⟩
theorem kd819 : jkd 819 = 6 := rfl
theorem kl819 : 2 ≤ jkd 819 := by rw [kd819]; decide
theorem kg819 : 3 ≤ jkd 819 := by rw [kd819]; decide
theorem kh819 : jkd 819 ≤ 8 := by rw [kd819]; decide
theorem ja819_6 : jat (jkd 819) .long := ⟨q453, by decide, Or.inr (Or.inr (Or.inr ⟨rfl, rfl⟩))⟩
theorem kd820 : jkd 820 = 3 := rfl
theorem kl820 : 2 ≤ jkd 820 := by rw [kd820]; decide
theorem ka820 : jkd 820 = 3 ∨ jkd 820 = 4 ∨ jkd 820 = 5 := Or.inl rfl
theorem kg820 : 3 ≤ jkd 820 := by rw [kd820]; decide
theorem kh820 : jkd 820 ≤ 8 := by rw [kd820]; decide
theorem ja820_3 : jat (jkd 820) .int := ⟨q452, by decide, Or.inl ⟨rfl, rfl⟩⟩
theorem kd821 : jkd 821 = 3 := rfl
theorem kl821 : 2 ≤ jkd 821 := by rw [kd821]; decide
theorem ka821 : jkd 821 = 3 ∨ jkd 821 = 4 ∨ jkd 821 = 5 := Or.inl rfl
theorem kg821 : 3 ≤ jkd 821 := by rw [kd821]; decide
theorem kh821 : jkd 821 ≤ 8 := by rw [kd821]; decide
theorem ja821_3 : jat (jkd 821) .int := ⟨q452, by decide, Or.inl ⟨rfl, rfl⟩⟩
theorem kd822 : jkd 822 = 3 := rfl
theorem kl822 : 2 ≤ jkd 822 := by rw [kd822]; decide
theorem ka822 : jkd 822 = 3 ∨ jkd 822 = 4 ∨ jkd 822 = 5 := Or.inl rfl
theorem kg822 : 3 ≤ jkd 822 := by rw [kd822]; decide
theorem kh822 : jkd 822 ≤ 8 := by rw [kd822]; decide
theorem ja822_3 : jat (jkd 822) .int := ⟨q452, by decide, Or.inl ⟨rfl, rfl⟩⟩
theorem kd823 : jkd 823 = 6 := rfl
theorem kl823 : 2 ≤ jkd 823 := by rw [kd823]; decide
theorem kg823 : 3 ≤ jkd 823 := by rw [kd823]; decide
theorem kh823 : jkd 823 ≤ 8 := by rw [kd823]; decide
theorem ja823_6 : jat (jkd 823) .long := ⟨q453, by decide, Or.inr (Or.inr (Or.inr ⟨rfl, rfl⟩))⟩
theorem kd824 : jkd 824 = 6 := rfl
theorem kl824 : 2 ≤ jkd 824 := by rw [kd824]; decide
theorem kg824 : 3 ≤ jkd 824 := by rw [kd824]; decide
theorem kh824 : jkd 824 ≤ 8 := by rw [kd824]; decide
theorem ja824_6 : jat (jkd 824) .long := ⟨q453, by decide, Or.inr (Or.inr (Or.inr ⟨rfl, rfl⟩))⟩
theorem kd825 : jkd 825 = 6 := rfl
theorem kl825 : 2 ≤ jkd 825 := by rw [kd825]; decide
theorem kg825 : 3 ≤ jkd 825 := by rw [kd825]; decide
theorem kh825 : jkd 825 ≤ 8 := by rw [kd825]; decide
theorem ja825_6 : jat (jkd 825) .long := ⟨q453, by decide, Or.inr (Or.inr (Or.inr ⟨rfl, rfl⟩))⟩
theorem kd826 : jkd 826 = 6 := rfl
theorem kl826 : 2 ≤ jkd 826 := by rw [kd826]; decide
theorem kg826 : 3 ≤ jkd 826 := by rw [kd826]; decide
theorem kh826 : jkd 826 ≤ 8 := by rw [kd826]; decide
theorem ja826_6 : jat (jkd 826) .long := ⟨q453, by decide, Or.inr (Or.inr (Or.inr ⟨rfl, rfl⟩))⟩
theorem kd827 : jkd 827 = 6 := rfl
theorem kl827 : 2 ≤ jkd 827 := by rw [kd827]; decide
theorem kg827 : 3 ≤ jkd 827 := by rw [kd827]; decide
theorem kh827 : jkd 827 ≤ 8 := by rw [kd827]; decide
theorem ja827_6 : jat (jkd 827) .long := ⟨q453, by decide, Or.inr (Or.inr (Or.inr ⟨rfl, rfl⟩))⟩
theorem kd828 : jkd 828 = 2 := rfl
theorem kl828 : 2 ≤ jkd 828 := by rw [kd828]; decide
theorem kd900 : jkd 900 = 2 := rfl
theorem kl900 : 2 ≤ jkd 900 := by rw [kd900]; decide
theorem kd901 : jkd 901 = 2 := rfl
theorem kl901 : 2 ≤ jkd 901 := by rw [kd901]; decide
theorem kd902 : jkd 902 = 0 := rfl
theorem kd903 : jkd 903 = 0 := rfl
theorem kd904 : jkd 904 = 0 := rfl
theorem kd905 : jkd 905 = 3 := rfl
theorem kl905 : 2 ≤ jkd 905 := by rw [kd905]; decide
theorem ka905 : jkd 905 = 3 ∨ jkd 905 = 4 ∨ jkd 905 = 5 := Or.inl rfl
theorem kg905 : 3 ≤ jkd 905 := by rw [kd905]; decide
theorem kh905 : jkd 905 ≤ 8 := by rw [kd905]; decide
theorem ja905_3 : jat (jkd 905) .int := ⟨q452, by decide, Or.inl ⟨rfl, rfl⟩⟩
theorem kd906 : jkd 906 = 3 := rfl
theorem kl906 : 2 ≤ jkd 906 := by rw [kd906]; decide
theorem ka906 : jkd 906 = 3 ∨ jkd 906 = 4 ∨ jkd 906 = 5 := Or.inl rfl
theorem kg906 : 3 ≤ jkd 906 := by rw [kd906]; decide
theorem kh906 : jkd 906 ≤ 8 := by rw [kd906]; decide
theorem ja906_3 : jat (jkd 906) .int := ⟨q452, by decide, Or.inl ⟨rfl, rfl⟩⟩
theorem kd907 : jkd 907 = 5 := rfl
theorem kl907 : 2 ≤ jkd 907 := by rw [kd907]; decide
theorem ka907 : jkd 907 = 3 ∨ jkd 907 = 4 ∨ jkd 907 = 5 := Or.inr (Or.inr rfl)
theorem kg907 : 3 ≤ jkd 907 := by rw [kd907]; decide
theorem kh907 : jkd 907 ≤ 8 := by rw [kd907]; decide
theorem ja907_5 : jat (jkd 907) .boolean := ⟨q454, by decide, Or.inr (Or.inr (Or.inl ⟨rfl, rfl⟩))⟩
theorem kd908 : jkd 908 = 3 := rfl
theorem kl908 : 2 ≤ jkd 908 := by rw [kd908]; decide
theorem ka908 : jkd 908 = 3 ∨ jkd 908 = 4 ∨ jkd 908 = 5 := Or.inl rfl
theorem kg908 : 3 ≤ jkd 908 := by rw [kd908]; decide
theorem kh908 : jkd 908 ≤ 8 := by rw [kd908]; decide
theorem ja908_3 : jat (jkd 908) .int := ⟨q452, by decide, Or.inl ⟨rfl, rfl⟩⟩
theorem kd909 : jkd 909 = 0 := rfl
theorem kd910 : jkd 910 = 0 := rfl
theorem kd911 : jkd 911 = 0 := rfl
theorem kd912 : jkd 912 = 0 := rfl
theorem kd913 : jkd 913 = 4 := rfl
theorem kl913 : 2 ≤ jkd 913 := by rw [kd913]; decide
theorem ka913 : jkd 913 = 3 ∨ jkd 913 = 4 ∨ jkd 913 = 5 := Or.inr (Or.inl rfl)
theorem kg913 : 3 ≤ jkd 913 := by rw [kd913]; decide
theorem kh913 : jkd 913 ≤ 8 := by rw [kd913]; decide
theorem ja913_4 : jat (jkd 913) .byte := ⟨q340, by decide, Or.inr (Or.inl ⟨rfl, rfl⟩)⟩
theorem kd914 : jkd 914 = 0 := rfl
theorem kd915 : jkd 915 = 0 := rfl
theorem kd916 : jkd 916 = 0 := rfl
theorem kd917 : jkd 917 = 0 := rfl
theorem kd918 : jkd 918 = 0 := rfl
theorem kd919 : jkd 919 = 0 := rfl
theorem kd920 : jkd 920 = 0 := rfl
theorem kd1000 : jkd 1000 = 0 := rfl
theorem kd1001 : jkd 1001 = 2 := rfl
theorem kl1001 : 2 ≤ jkd 1001 := by rw [kd1001]; decide
theorem kd1002 : jkd 1002 = 2 := rfl
theorem kl1002 : 2 ≤ jkd 1002 := by rw [kd1002]; decide
theorem kd1003 : jkd 1003 = 2 := rfl
theorem kl1003 : 2 ≤ jkd 1003 := by rw [kd1003]; decide
theorem kd1004 : jkd 1004 = 2 := rfl
theorem kl1004 : 2 ≤ jkd 1004 := by rw [kd1004]; decide
theorem kd1005 : jkd 1005 = 2 := rfl
theorem kl1005 : 2 ≤ jkd 1005 := by rw [kd1005]; decide
theorem kd1006 : jkd 1006 = 0 := rfl
theorem kd1007 : jkd 1007 = 6 := rfl
theorem kl1007 : 2 ≤ jkd 1007 := by rw [kd1007]; decide
theorem kg1007 : 3 ≤ jkd 1007 := by rw [kd1007]; decide
theorem kh1007 : jkd 1007 ≤ 8 := by rw [kd1007]; decide
theorem ja1007_6 : jat (jkd 1007) .long := ⟨q453, by decide, Or.inr (Or.inr (Or.inr ⟨rfl, rfl⟩))⟩
theorem kd1008 : jkd 1008 = 3 := rfl
theorem kl1008 : 2 ≤ jkd 1008 := by rw [kd1008]; decide
theorem ka1008 : jkd 1008 = 3 ∨ jkd 1008 = 4 ∨ jkd 1008 = 5 := Or.inl rfl
theorem kg1008 : 3 ≤ jkd 1008 := by rw [kd1008]; decide
theorem kh1008 : jkd 1008 ≤ 8 := by rw [kd1008]; decide
theorem ja1008_3 : jat (jkd 1008) .int := ⟨q452, by decide, Or.inl ⟨rfl, rfl⟩⟩
theorem kd1009 : jkd 1009 = 3 := rfl
theorem kl1009 : 2 ≤ jkd 1009 := by rw [kd1009]; decide
theorem ka1009 : jkd 1009 = 3 ∨ jkd 1009 = 4 ∨ jkd 1009 = 5 := Or.inl rfl
theorem kg1009 : 3 ≤ jkd 1009 := by rw [kd1009]; decide
theorem kh1009 : jkd 1009 ≤ 8 := by rw [kd1009]; decide
theorem ja1009_3 : jat (jkd 1009) .int := ⟨q452, by decide, Or.inl ⟨rfl, rfl⟩⟩
theorem kd1010 : jkd 1010 = 0 := rfl
theorem kd1011 : jkd 1011 = 0 := rfl
theorem kd1012 : jkd 1012 = 0 := rfl
theorem kd1013 : jkd 1013 = 0 := rfl
theorem kd1014 : jkd 1014 = 1 := rfl
theorem kd1015 : jkd 1015 = 0 := rfl
theorem kd1016 : jkd 1016 = 0 := rfl
theorem kd1017 : jkd 1017 = 0 := rfl
theorem kd1018 : jkd 1018 = 0 := rfl
theorem kd1019 : jkd 1019 = 0 := rfl
theorem kd1020 : jkd 1020 = 3 := rfl
theorem kl1020 : 2 ≤ jkd 1020 := by rw [kd1020]; decide
theorem ka1020 : jkd 1020 = 3 ∨ jkd 1020 = 4 ∨ jkd 1020 = 5 := Or.inl rfl
theorem kg1020 : 3 ≤ jkd 1020 := by rw [kd1020]; decide
theorem kh1020 : jkd 1020 ≤ 8 := by rw [kd1020]; decide
theorem ja1020_3 : jat (jkd 1020) .int := ⟨q452, by decide, Or.inl ⟨rfl, rfl⟩⟩
theorem kd1021 : jkd 1021 = 6 := rfl
theorem kl1021 : 2 ≤ jkd 1021 := by rw [kd1021]; decide
theorem kg1021 : 3 ≤ jkd 1021 := by rw [kd1021]; decide
theorem kh1021 : jkd 1021 ≤ 8 := by rw [kd1021]; decide
theorem ja1021_6 : jat (jkd 1021) .long := ⟨q453, by decide, Or.inr (Or.inr (Or.inr ⟨rfl, rfl⟩))⟩
theorem kd1022 : jkd 1022 = 4 := rfl
theorem kl1022 : 2 ≤ jkd 1022 := by rw [kd1022]; decide
theorem ka1022 : jkd 1022 = 3 ∨ jkd 1022 = 4 ∨ jkd 1022 = 5 := Or.inr (Or.inl rfl)
theorem kg1022 : 3 ≤ jkd 1022 := by rw [kd1022]; decide
theorem kh1022 : jkd 1022 ≤ 8 := by rw [kd1022]; decide
theorem ja1022_4 : jat (jkd 1022) .byte := ⟨q340, by decide, Or.inr (Or.inl ⟨rfl, rfl⟩)⟩
theorem kd1023 : jkd 1023 = 0 := rfl
theorem kd1100 : jkd 1100 = 0 := rfl
theorem kd1101 : jkd 1101 = 2 := rfl
theorem kl1101 : 2 ≤ jkd 1101 := by rw [kd1101]; decide
theorem kd1200 : jkd 1200 = 2 := rfl
theorem kl1200 : 2 ≤ jkd 1200 := by rw [kd1200]; decide
theorem kd1201 : jkd 1201 = 2 := rfl
theorem kl1201 : 2 ≤ jkd 1201 := by rw [kd1201]; decide
theorem kd1202 : jkd 1202 = 4 := rfl
theorem kl1202 : 2 ≤ jkd 1202 := by rw [kd1202]; decide
theorem ka1202 : jkd 1202 = 3 ∨ jkd 1202 = 4 ∨ jkd 1202 = 5 := Or.inr (Or.inl rfl)
theorem kg1202 : 3 ≤ jkd 1202 := by rw [kd1202]; decide
theorem kh1202 : jkd 1202 ≤ 8 := by rw [kd1202]; decide
theorem ja1202_4 : jat (jkd 1202) .byte := ⟨q340, by decide, Or.inr (Or.inl ⟨rfl, rfl⟩)⟩
theorem kd1203 : jkd 1203 = 3 := rfl
theorem kl1203 : 2 ≤ jkd 1203 := by rw [kd1203]; decide
theorem ka1203 : jkd 1203 = 3 ∨ jkd 1203 = 4 ∨ jkd 1203 = 5 := Or.inl rfl
theorem kg1203 : 3 ≤ jkd 1203 := by rw [kd1203]; decide
theorem kh1203 : jkd 1203 ≤ 8 := by rw [kd1203]; decide
theorem ja1203_3 : jat (jkd 1203) .int := ⟨q452, by decide, Or.inl ⟨rfl, rfl⟩⟩
theorem kd1204 : jkd 1204 = 3 := rfl
theorem kl1204 : 2 ≤ jkd 1204 := by rw [kd1204]; decide
theorem ka1204 : jkd 1204 = 3 ∨ jkd 1204 = 4 ∨ jkd 1204 = 5 := Or.inl rfl
theorem kg1204 : 3 ≤ jkd 1204 := by rw [kd1204]; decide
theorem kh1204 : jkd 1204 ≤ 8 := by rw [kd1204]; decide
theorem ja1204_3 : jat (jkd 1204) .int := ⟨q452, by decide, Or.inl ⟨rfl, rfl⟩⟩
theorem kd1205 : jkd 1205 = 4 := rfl
theorem kl1205 : 2 ≤ jkd 1205 := by rw [kd1205]; decide
theorem ka1205 : jkd 1205 = 3 ∨ jkd 1205 = 4 ∨ jkd 1205 = 5 := Or.inr (Or.inl rfl)
theorem kg1205 : 3 ≤ jkd 1205 := by rw [kd1205]; decide
theorem kh1205 : jkd 1205 ≤ 8 := by rw [kd1205]; decide
theorem ja1205_4 : jat (jkd 1205) .byte := ⟨q340, by decide, Or.inr (Or.inl ⟨rfl, rfl⟩)⟩
theorem kd1206 : jkd 1206 = 3 := rfl
theorem kl1206 : 2 ≤ jkd 1206 := by rw [kd1206]; decide
theorem ka1206 : jkd 1206 = 3 ∨ jkd 1206 = 4 ∨ jkd 1206 = 5 := Or.inl rfl
theorem kg1206 : 3 ≤ jkd 1206 := by rw [kd1206]; decide
theorem kh1206 : jkd 1206 ≤ 8 := by rw [kd1206]; decide
theorem ja1206_3 : jat (jkd 1206) .int := ⟨q452, by decide, Or.inl ⟨rfl, rfl⟩⟩
theorem kd1300 : jkd 1300 = 4 := rfl
theorem kl1300 : 2 ≤ jkd 1300 := by rw [kd1300]; decide
theorem ka1300 : jkd 1300 = 3 ∨ jkd 1300 = 4 ∨ jkd 1300 = 5 := Or.inr (Or.inl rfl)
theorem kg1300 : 3 ≤ jkd 1300 := by rw [kd1300]; decide
theorem kh1300 : jkd 1300 ≤ 8 := by rw [kd1300]; decide
theorem ja1300_4 : jat (jkd 1300) .byte := ⟨q340, by decide, Or.inr (Or.inl ⟨rfl, rfl⟩)⟩
theorem kd1301 : jkd 1301 = 0 := rfl
theorem kd1302 : jkd 1302 = 0 := rfl
theorem kd1303 : jkd 1303 = 2 := rfl
theorem kl1303 : 2 ≤ jkd 1303 := by rw [kd1303]; decide
theorem kd1304 : jkd 1304 = 2 := rfl
theorem kl1304 : 2 ≤ jkd 1304 := by rw [kd1304]; decide
theorem kd1305 : jkd 1305 = 2 := rfl
theorem kl1305 : 2 ≤ jkd 1305 := by rw [kd1305]; decide
theorem kd1306 : jkd 1306 = 2 := rfl
theorem kl1306 : 2 ≤ jkd 1306 := by rw [kd1306]; decide
theorem kd1307 : jkd 1307 = 0 := rfl
theorem kd1308 : jkd 1308 = 0 := rfl
theorem kd1309 : jkd 1309 = 0 := rfl
theorem kd1310 : jkd 1310 = 0 := rfl
theorem kd1311 : jkd 1311 = 0 := rfl
theorem kd1312 : jkd 1312 = 0 := rfl
theorem kd1313 : jkd 1313 = 1 := rfl
theorem kd1314 : jkd 1314 = 1 := rfl
theorem kd1315 : jkd 1315 = 3 := rfl
theorem kl1315 : 2 ≤ jkd 1315 := by rw [kd1315]; decide
theorem ka1315 : jkd 1315 = 3 ∨ jkd 1315 = 4 ∨ jkd 1315 = 5 := Or.inl rfl
theorem kg1315 : 3 ≤ jkd 1315 := by rw [kd1315]; decide
theorem kh1315 : jkd 1315 ≤ 8 := by rw [kd1315]; decide
theorem ja1315_3 : jat (jkd 1315) .int := ⟨q452, by decide, Or.inl ⟨rfl, rfl⟩⟩
theorem kd1316 : jkd 1316 = 3 := rfl
theorem kl1316 : 2 ≤ jkd 1316 := by rw [kd1316]; decide
theorem ka1316 : jkd 1316 = 3 ∨ jkd 1316 = 4 ∨ jkd 1316 = 5 := Or.inl rfl
theorem kg1316 : 3 ≤ jkd 1316 := by rw [kd1316]; decide
theorem kh1316 : jkd 1316 ≤ 8 := by rw [kd1316]; decide
theorem ja1316_3 : jat (jkd 1316) .int := ⟨q452, by decide, Or.inl ⟨rfl, rfl⟩⟩
theorem kd1317 : jkd 1317 = 3 := rfl
theorem kl1317 : 2 ≤ jkd 1317 := by rw [kd1317]; decide
theorem ka1317 : jkd 1317 = 3 ∨ jkd 1317 = 4 ∨ jkd 1317 = 5 := Or.inl rfl
theorem kg1317 : 3 ≤ jkd 1317 := by rw [kd1317]; decide
theorem kh1317 : jkd 1317 ≤ 8 := by rw [kd1317]; decide
theorem ja1317_3 : jat (jkd 1317) .int := ⟨q452, by decide, Or.inl ⟨rfl, rfl⟩⟩
theorem kd1318 : jkd 1318 = 5 := rfl
theorem kl1318 : 2 ≤ jkd 1318 := by rw [kd1318]; decide
theorem ka1318 : jkd 1318 = 3 ∨ jkd 1318 = 4 ∨ jkd 1318 = 5 := Or.inr (Or.inr rfl)
theorem kg1318 : 3 ≤ jkd 1318 := by rw [kd1318]; decide
theorem kh1318 : jkd 1318 ≤ 8 := by rw [kd1318]; decide
theorem ja1318_5 : jat (jkd 1318) .boolean := ⟨q454, by decide, Or.inr (Or.inr (Or.inl ⟨rfl, rfl⟩))⟩
theorem kd1319 : jkd 1319 = 3 := rfl
theorem kl1319 : 2 ≤ jkd 1319 := by rw [kd1319]; decide
theorem ka1319 : jkd 1319 = 3 ∨ jkd 1319 = 4 ∨ jkd 1319 = 5 := Or.inl rfl
theorem kg1319 : 3 ≤ jkd 1319 := by rw [kd1319]; decide
theorem kh1319 : jkd 1319 ≤ 8 := by rw [kd1319]; decide
theorem ja1319_3 : jat (jkd 1319) .int := ⟨q452, by decide, Or.inl ⟨rfl, rfl⟩⟩
theorem kd1320 : jkd 1320 = 3 := rfl
theorem kl1320 : 2 ≤ jkd 1320 := by rw [kd1320]; decide
theorem ka1320 : jkd 1320 = 3 ∨ jkd 1320 = 4 ∨ jkd 1320 = 5 := Or.inl rfl
theorem kg1320 : 3 ≤ jkd 1320 := by rw [kd1320]; decide
theorem kh1320 : jkd 1320 ≤ 8 := by rw [kd1320]; decide
theorem ja1320_3 : jat (jkd 1320) .int := ⟨q452, by decide, Or.inl ⟨rfl, rfl⟩⟩
theorem kd1321 : jkd 1321 = 3 := rfl
theorem kl1321 : 2 ≤ jkd 1321 := by rw [kd1321]; decide
theorem ka1321 : jkd 1321 = 3 ∨ jkd 1321 = 4 ∨ jkd 1321 = 5 := Or.inl rfl
theorem kg1321 : 3 ≤ jkd 1321 := by rw [kd1321]; decide
theorem kh1321 : jkd 1321 ≤ 8 := by rw [kd1321]; decide
theorem ja1321_3 : jat (jkd 1321) .int := ⟨q452, by decide, Or.inl ⟨rfl, rfl⟩⟩
theorem kd1322 : jkd 1322 = 3 := rfl
theorem kl1322 : 2 ≤ jkd 1322 := by rw [kd1322]; decide
theorem ka1322 : jkd 1322 = 3 ∨ jkd 1322 = 4 ∨ jkd 1322 = 5 := Or.inl rfl
theorem kg1322 : 3 ≤ jkd 1322 := by rw [kd1322]; decide
theorem kh1322 : jkd 1322 ≤ 8 := by rw [kd1322]; decide
theorem ja1322_3 : jat (jkd 1322) .int := ⟨q452, by decide, Or.inl ⟨rfl, rfl⟩⟩
theorem kd1323 : jkd 1323 = 3 := rfl
theorem kl1323 : 2 ≤ jkd 1323 := by rw [kd1323]; decide
theorem ka1323 : jkd 1323 = 3 ∨ jkd 1323 = 4 ∨ jkd 1323 = 5 := Or.inl rfl
theorem kg1323 : 3 ≤ jkd 1323 := by rw [kd1323]; decide
theorem kh1323 : jkd 1323 ≤ 8 := by rw [kd1323]; decide
theorem ja1323_3 : jat (jkd 1323) .int := ⟨q452, by decide, Or.inl ⟨rfl, rfl⟩⟩
theorem kd1324 : jkd 1324 = 3 := rfl
theorem kl1324 : 2 ≤ jkd 1324 := by rw [kd1324]; decide
theorem ka1324 : jkd 1324 = 3 ∨ jkd 1324 = 4 ∨ jkd 1324 = 5 := Or.inl rfl
theorem kg1324 : 3 ≤ jkd 1324 := by rw [kd1324]; decide
theorem kh1324 : jkd 1324 ≤ 8 := by rw [kd1324]; decide
theorem ja1324_3 : jat (jkd 1324) .int := ⟨q452, by decide, Or.inl ⟨rfl, rfl⟩⟩
theorem kd1325 : jkd 1325 = 3 := rfl
theorem kl1325 : 2 ≤ jkd 1325 := by rw [kd1325]; decide
theorem ka1325 : jkd 1325 = 3 ∨ jkd 1325 = 4 ∨ jkd 1325 = 5 := Or.inl rfl
theorem kg1325 : 3 ≤ jkd 1325 := by rw [kd1325]; decide
theorem kh1325 : jkd 1325 ≤ 8 := by rw [kd1325]; decide
theorem ja1325_3 : jat (jkd 1325) .int := ⟨q452, by decide, Or.inl ⟨rfl, rfl⟩⟩
theorem kd1326 : jkd 1326 = 3 := rfl
theorem kl1326 : 2 ≤ jkd 1326 := by rw [kd1326]; decide
theorem ka1326 : jkd 1326 = 3 ∨ jkd 1326 = 4 ∨ jkd 1326 = 5 := Or.inl rfl
theorem kg1326 : 3 ≤ jkd 1326 := by rw [kd1326]; decide
theorem kh1326 : jkd 1326 ≤ 8 := by rw [kd1326]; decide
theorem ja1326_3 : jat (jkd 1326) .int := ⟨q452, by decide, Or.inl ⟨rfl, rfl⟩⟩
theorem kd1327 : jkd 1327 = 5 := rfl
theorem kl1327 : 2 ≤ jkd 1327 := by rw [kd1327]; decide
theorem ka1327 : jkd 1327 = 3 ∨ jkd 1327 = 4 ∨ jkd 1327 = 5 := Or.inr (Or.inr rfl)
theorem kg1327 : 3 ≤ jkd 1327 := by rw [kd1327]; decide
theorem kh1327 : jkd 1327 ≤ 8 := by rw [kd1327]; decide
theorem ja1327_5 : jat (jkd 1327) .boolean := ⟨q454, by decide, Or.inr (Or.inr (Or.inl ⟨rfl, rfl⟩))⟩
theorem kd1328 : jkd 1328 = 0 := rfl
theorem kd1329 : jkd 1329 = 0 := rfl
theorem kd1330 : jkd 1330 = 3 := rfl
theorem kl1330 : 2 ≤ jkd 1330 := by rw [kd1330]; decide
theorem ka1330 : jkd 1330 = 3 ∨ jkd 1330 = 4 ∨ jkd 1330 = 5 := Or.inl rfl
theorem kg1330 : 3 ≤ jkd 1330 := by rw [kd1330]; decide
theorem kh1330 : jkd 1330 ≤ 8 := by rw [kd1330]; decide
theorem ja1330_3 : jat (jkd 1330) .int := ⟨q452, by decide, Or.inl ⟨rfl, rfl⟩⟩
theorem kd1331 : jkd 1331 = 3 := rfl
theorem kl1331 : 2 ≤ jkd 1331 := by rw [kd1331]; decide
theorem ka1331 : jkd 1331 = 3 ∨ jkd 1331 = 4 ∨ jkd 1331 = 5 := Or.inl rfl
theorem kg1331 : 3 ≤ jkd 1331 := by rw [kd1331]; decide
theorem kh1331 : jkd 1331 ≤ 8 := by rw [kd1331]; decide
theorem ja1331_3 : jat (jkd 1331) .int := ⟨q452, by decide, Or.inl ⟨rfl, rfl⟩⟩
theorem kd1332 : jkd 1332 = 5 := rfl
theorem kl1332 : 2 ≤ jkd 1332 := by rw [kd1332]; decide
theorem ka1332 : jkd 1332 = 3 ∨ jkd 1332 = 4 ∨ jkd 1332 = 5 := Or.inr (Or.inr rfl)
theorem kg1332 : 3 ≤ jkd 1332 := by rw [kd1332]; decide
theorem kh1332 : jkd 1332 ≤ 8 := by rw [kd1332]; decide
theorem ja1332_5 : jat (jkd 1332) .boolean := ⟨q454, by decide, Or.inr (Or.inr (Or.inl ⟨rfl, rfl⟩))⟩
theorem kd1333 : jkd 1333 = 6 := rfl
theorem kl1333 : 2 ≤ jkd 1333 := by rw [kd1333]; decide
theorem kg1333 : 3 ≤ jkd 1333 := by rw [kd1333]; decide
theorem kh1333 : jkd 1333 ≤ 8 := by rw [kd1333]; decide
theorem ja1333_6 : jat (jkd 1333) .long := ⟨q453, by decide, Or.inr (Or.inr (Or.inr ⟨rfl, rfl⟩))⟩
theorem kd1334 : jkd 1334 = 5 := rfl
theorem kl1334 : 2 ≤ jkd 1334 := by rw [kd1334]; decide
theorem ka1334 : jkd 1334 = 3 ∨ jkd 1334 = 4 ∨ jkd 1334 = 5 := Or.inr (Or.inr rfl)
theorem kg1334 : 3 ≤ jkd 1334 := by rw [kd1334]; decide
theorem kh1334 : jkd 1334 ≤ 8 := by rw [kd1334]; decide
theorem ja1334_5 : jat (jkd 1334) .boolean := ⟨q454, by decide, Or.inr (Or.inr (Or.inl ⟨rfl, rfl⟩))⟩
theorem kd1335 : jkd 1335 = 3 := rfl
theorem kl1335 : 2 ≤ jkd 1335 := by rw [kd1335]; decide
theorem ka1335 : jkd 1335 = 3 ∨ jkd 1335 = 4 ∨ jkd 1335 = 5 := Or.inl rfl
theorem kg1335 : 3 ≤ jkd 1335 := by rw [kd1335]; decide
theorem kh1335 : jkd 1335 ≤ 8 := by rw [kd1335]; decide
theorem ja1335_3 : jat (jkd 1335) .int := ⟨q452, by decide, Or.inl ⟨rfl, rfl⟩⟩
theorem kd1336 : jkd 1336 = 3 := rfl
theorem kl1336 : 2 ≤ jkd 1336 := by rw [kd1336]; decide
theorem ka1336 : jkd 1336 = 3 ∨ jkd 1336 = 4 ∨ jkd 1336 = 5 := Or.inl rfl
theorem kg1336 : 3 ≤ jkd 1336 := by rw [kd1336]; decide
theorem kh1336 : jkd 1336 ≤ 8 := by rw [kd1336]; decide
theorem ja1336_3 : jat (jkd 1336) .int := ⟨q452, by decide, Or.inl ⟨rfl, rfl⟩⟩
theorem kd1337 : jkd 1337 = 5 := rfl
theorem kl1337 : 2 ≤ jkd 1337 := by rw [kd1337]; decide
theorem ka1337 : jkd 1337 = 3 ∨ jkd 1337 = 4 ∨ jkd 1337 = 5 := Or.inr (Or.inr rfl)
theorem kg1337 : 3 ≤ jkd 1337 := by rw [kd1337]; decide
theorem kh1337 : jkd 1337 ≤ 8 := by rw [kd1337]; decide
theorem ja1337_5 : jat (jkd 1337) .boolean := ⟨q454, by decide, Or.inr (Or.inr (Or.inl ⟨rfl, rfl⟩))⟩
theorem kd1338 : jkd 1338 = 3 := rfl
theorem kl1338 : 2 ≤ jkd 1338 := by rw [kd1338]; decide
theorem ka1338 : jkd 1338 = 3 ∨ jkd 1338 = 4 ∨ jkd 1338 = 5 := Or.inl rfl
theorem kg1338 : 3 ≤ jkd 1338 := by rw [kd1338]; decide
theorem kh1338 : jkd 1338 ≤ 8 := by rw [kd1338]; decide
theorem ja1338_3 : jat (jkd 1338) .int := ⟨q452, by decide, Or.inl ⟨rfl, rfl⟩⟩
theorem kd1339 : jkd 1339 = 2 := rfl
theorem kl1339 : 2 ≤ jkd 1339 := by rw [kd1339]; decide
theorem kd1340 : jkd 1340 = 6 := rfl
theorem kl1340 : 2 ≤ jkd 1340 := by rw [kd1340]; decide
theorem kg1340 : 3 ≤ jkd 1340 := by rw [kd1340]; decide
theorem kh1340 : jkd 1340 ≤ 8 := by rw [kd1340]; decide
theorem ja1340_6 : jat (jkd 1340) .long := ⟨q453, by decide, Or.inr (Or.inr (Or.inr ⟨rfl, rfl⟩))⟩
theorem kd1341 : jkd 1341 = 6 := rfl
theorem kl1341 : 2 ≤ jkd 1341 := by rw [kd1341]; decide
theorem kg1341 : 3 ≤ jkd 1341 := by rw [kd1341]; decide
theorem kh1341 : jkd 1341 ≤ 8 := by rw [kd1341]; decide
theorem ja1341_6 : jat (jkd 1341) .long := ⟨q453, by decide, Or.inr (Or.inr (Or.inr ⟨rfl, rfl⟩))⟩
theorem kd1342 : jkd 1342 = 3 := rfl
theorem kl1342 : 2 ≤ jkd 1342 := by rw [kd1342]; decide
theorem ka1342 : jkd 1342 = 3 ∨ jkd 1342 = 4 ∨ jkd 1342 = 5 := Or.inl rfl
theorem kg1342 : 3 ≤ jkd 1342 := by rw [kd1342]; decide
theorem kh1342 : jkd 1342 ≤ 8 := by rw [kd1342]; decide
theorem ja1342_3 : jat (jkd 1342) .int := ⟨q452, by decide, Or.inl ⟨rfl, rfl⟩⟩
theorem kd1343 : jkd 1343 = 3 := rfl
theorem kl1343 : 2 ≤ jkd 1343 := by rw [kd1343]; decide
theorem ka1343 : jkd 1343 = 3 ∨ jkd 1343 = 4 ∨ jkd 1343 = 5 := Or.inl rfl
theorem kg1343 : 3 ≤ jkd 1343 := by rw [kd1343]; decide
theorem kh1343 : jkd 1343 ≤ 8 := by rw [kd1343]; decide
theorem ja1343_3 : jat (jkd 1343) .int := ⟨q452, by decide, Or.inl ⟨rfl, rfl⟩⟩
theorem kd1344 : jkd 1344 = 3 := rfl
theorem kl1344 : 2 ≤ jkd 1344 := by rw [kd1344]; decide
theorem ka1344 : jkd 1344 = 3 ∨ jkd 1344 = 4 ∨ jkd 1344 = 5 := Or.inl rfl
theorem kg1344 : 3 ≤ jkd 1344 := by rw [kd1344]; decide
theorem kh1344 : jkd 1344 ≤ 8 := by rw [kd1344]; decide
theorem ja1344_3 : jat (jkd 1344) .int := ⟨q452, by decide, Or.inl ⟨rfl, rfl⟩⟩
theorem kd1345 : jkd 1345 = 6 := rfl
theorem kl1345 : 2 ≤ jkd 1345 := by rw [kd1345]; decide
theorem kg1345 : 3 ≤ jkd 1345 := by rw [kd1345]; decide
theorem kh1345 : jkd 1345 ≤ 8 := by rw [kd1345]; decide
theorem ja1345_6 : jat (jkd 1345) .long := ⟨q453, by decide, Or.inr (Or.inr (Or.inr ⟨rfl, rfl⟩))⟩
theorem kd1346 : jkd 1346 = 6 := rfl
theorem kl1346 : 2 ≤ jkd 1346 := by rw [kd1346]; decide
theorem kg1346 : 3 ≤ jkd 1346 := by rw [kd1346]; decide
theorem kh1346 : jkd 1346 ≤ 8 := by rw [kd1346]; decide
theorem ja1346_6 : jat (jkd 1346) .long := ⟨q453, by decide, Or.inr (Or.inr (Or.inr ⟨rfl, rfl⟩))⟩
theorem kd1347 : jkd 1347 = 6 := rfl
theorem kl1347 : 2 ≤ jkd 1347 := by rw [kd1347]; decide
theorem kg1347 : 3 ≤ jkd 1347 := by rw [kd1347]; decide
theorem kh1347 : jkd 1347 ≤ 8 := by rw [kd1347]; decide
theorem ja1347_6 : jat (jkd 1347) .long := ⟨q453, by decide, Or.inr (Or.inr (Or.inr ⟨rfl, rfl⟩))⟩
theorem kd1348 : jkd 1348 = 2 := rfl
theorem kl1348 : 2 ≤ jkd 1348 := by rw [kd1348]; decide
theorem kd1349 : jkd 1349 = 6 := rfl
theorem kl1349 : 2 ≤ jkd 1349 := by rw [kd1349]; decide
theorem kg1349 : 3 ≤ jkd 1349 := by rw [kd1349]; decide
theorem kh1349 : jkd 1349 ≤ 8 := by rw [kd1349]; decide
theorem ja1349_6 : jat (jkd 1349) .long := ⟨q453, by decide, Or.inr (Or.inr (Or.inr ⟨rfl, rfl⟩))⟩
theorem kd1350 : jkd 1350 = 2 := rfl
theorem kl1350 : 2 ≤ jkd 1350 := by rw [kd1350]; decide
theorem kd1351 : jkd 1351 = 2 := rfl
theorem kl1351 : 2 ≤ jkd 1351 := by rw [kd1351]; decide
theorem kd1352 : jkd 1352 = 0 := rfl
theorem kd1353 : jkd 1353 = 0 := rfl
theorem kd1354 : jkd 1354 = 2 := rfl
theorem kl1354 : 2 ≤ jkd 1354 := by rw [kd1354]; decide
theorem kd1355 : jkd 1355 = 0 := rfl
theorem kd1356 : jkd 1356 = 0 := rfl
theorem kd1357 : jkd 1357 = 0 := rfl
theorem kd1358 : jkd 1358 = 5 := rfl
theorem kl1358 : 2 ≤ jkd 1358 := by rw [kd1358]; decide
theorem ka1358 : jkd 1358 = 3 ∨ jkd 1358 = 4 ∨ jkd 1358 = 5 := Or.inr (Or.inr rfl)
theorem kg1358 : 3 ≤ jkd 1358 := by rw [kd1358]; decide
theorem kh1358 : jkd 1358 ≤ 8 := by rw [kd1358]; decide
theorem ja1358_5 : jat (jkd 1358) .boolean := ⟨q454, by decide, Or.inr (Or.inr (Or.inl ⟨rfl, rfl⟩))⟩
theorem kd1359 : jkd 1359 = 5 := rfl
theorem kl1359 : 2 ≤ jkd 1359 := by rw [kd1359]; decide
theorem ka1359 : jkd 1359 = 3 ∨ jkd 1359 = 4 ∨ jkd 1359 = 5 := Or.inr (Or.inr rfl)
theorem kg1359 : 3 ≤ jkd 1359 := by rw [kd1359]; decide
theorem kh1359 : jkd 1359 ≤ 8 := by rw [kd1359]; decide
theorem ja1359_5 : jat (jkd 1359) .boolean := ⟨q454, by decide, Or.inr (Or.inr (Or.inl ⟨rfl, rfl⟩))⟩
theorem kd1360 : jkd 1360 = 2 := rfl
theorem kl1360 : 2 ≤ jkd 1360 := by rw [kd1360]; decide
theorem kd1361 : jkd 1361 = 2 := rfl
theorem kl1361 : 2 ≤ jkd 1361 := by rw [kd1361]; decide
theorem kd1362 : jkd 1362 = 2 := rfl
theorem kl1362 : 2 ≤ jkd 1362 := by rw [kd1362]; decide
theorem kd1363 : jkd 1363 = 2 := rfl
theorem kl1363 : 2 ≤ jkd 1363 := by rw [kd1363]; decide
theorem kd1400 : jkd 1400 = 2 := rfl
theorem kl1400 : 2 ≤ jkd 1400 := by rw [kd1400]; decide
theorem kd1401 : jkd 1401 = 0 := rfl
theorem kd1402 : jkd 1402 = 0 := rfl
theorem kd1403 : jkd 1403 = 0 := rfl
theorem kd1404 : jkd 1404 = 0 := rfl
theorem kd1405 : jkd 1405 = 1 := rfl
theorem kd1406 : jkd 1406 = 3 := rfl
theorem kl1406 : 2 ≤ jkd 1406 := by rw [kd1406]; decide
theorem ka1406 : jkd 1406 = 3 ∨ jkd 1406 = 4 ∨ jkd 1406 = 5 := Or.inl rfl
theorem kg1406 : 3 ≤ jkd 1406 := by rw [kd1406]; decide
theorem kh1406 : jkd 1406 ≤ 8 := by rw [kd1406]; decide
theorem ja1406_3 : jat (jkd 1406) .int := ⟨q452, by decide, Or.inl ⟨rfl, rfl⟩⟩
theorem kd1407 : jkd 1407 = 3 := rfl
theorem kl1407 : 2 ≤ jkd 1407 := by rw [kd1407]; decide
theorem ka1407 : jkd 1407 = 3 ∨ jkd 1407 = 4 ∨ jkd 1407 = 5 := Or.inl rfl
theorem kg1407 : 3 ≤ jkd 1407 := by rw [kd1407]; decide
theorem kh1407 : jkd 1407 ≤ 8 := by rw [kd1407]; decide
theorem ja1407_3 : jat (jkd 1407) .int := ⟨q452, by decide, Or.inl ⟨rfl, rfl⟩⟩
theorem kd1408 : jkd 1408 = 6 := rfl
theorem kl1408 : 2 ≤ jkd 1408 := by rw [kd1408]; decide
theorem kg1408 : 3 ≤ jkd 1408 := by rw [kd1408]; decide
theorem kh1408 : jkd 1408 ≤ 8 := by rw [kd1408]; decide
theorem ja1408_6 : jat (jkd 1408) .long := ⟨q453, by decide, Or.inr (Or.inr (Or.inr ⟨rfl, rfl⟩))⟩
theorem kd1409 : jkd 1409 = 3 := rfl
theorem kl1409 : 2 ≤ jkd 1409 := by rw [kd1409]; decide
theorem ka1409 : jkd 1409 = 3 ∨ jkd 1409 = 4 ∨ jkd 1409 = 5 := Or.inl rfl
theorem kg1409 : 3 ≤ jkd 1409 := by rw [kd1409]; decide
theorem kh1409 : jkd 1409 ≤ 8 := by rw [kd1409]; decide
theorem ja1409_3 : jat (jkd 1409) .int := ⟨q452, by decide, Or.inl ⟨rfl, rfl⟩⟩
theorem kd1410 : jkd 1410 = 3 := rfl
theorem kl1410 : 2 ≤ jkd 1410 := by rw [kd1410]; decide
theorem ka1410 : jkd 1410 = 3 ∨ jkd 1410 = 4 ∨ jkd 1410 = 5 := Or.inl rfl
theorem kg1410 : 3 ≤ jkd 1410 := by rw [kd1410]; decide
theorem kh1410 : jkd 1410 ≤ 8 := by rw [kd1410]; decide
theorem ja1410_3 : jat (jkd 1410) .int := ⟨q452, by decide, Or.inl ⟨rfl, rfl⟩⟩
theorem kd1411 : jkd 1411 = 3 := rfl
theorem kl1411 : 2 ≤ jkd 1411 := by rw [kd1411]; decide
theorem ka1411 : jkd 1411 = 3 ∨ jkd 1411 = 4 ∨ jkd 1411 = 5 := Or.inl rfl
theorem kg1411 : 3 ≤ jkd 1411 := by rw [kd1411]; decide
theorem kh1411 : jkd 1411 ≤ 8 := by rw [kd1411]; decide
theorem ja1411_3 : jat (jkd 1411) .int := ⟨q452, by decide, Or.inl ⟨rfl, rfl⟩⟩
theorem kd1412 : jkd 1412 = 6 := rfl
theorem kl1412 : 2 ≤ jkd 1412 := by rw [kd1412]; decide
theorem kg1412 : 3 ≤ jkd 1412 := by rw [kd1412]; decide
theorem kh1412 : jkd 1412 ≤ 8 := by rw [kd1412]; decide
theorem ja1412_6 : jat (jkd 1412) .long := ⟨q453, by decide, Or.inr (Or.inr (Or.inr ⟨rfl, rfl⟩))⟩
theorem kd1413 : jkd 1413 = 6 := rfl
theorem kl1413 : 2 ≤ jkd 1413 := by rw [kd1413]; decide
theorem kg1413 : 3 ≤ jkd 1413 := by rw [kd1413]; decide
theorem kh1413 : jkd 1413 ≤ 8 := by rw [kd1413]; decide
theorem ja1413_6 : jat (jkd 1413) .long := ⟨q453, by decide, Or.inr (Or.inr (Or.inr ⟨rfl, rfl⟩))⟩
theorem kd1414 : jkd 1414 = 6 := rfl
theorem kl1414 : 2 ≤ jkd 1414 := by rw [kd1414]; decide
theorem kg1414 : 3 ≤ jkd 1414 := by rw [kd1414]; decide
theorem kh1414 : jkd 1414 ≤ 8 := by rw [kd1414]; decide
theorem ja1414_6 : jat (jkd 1414) .long := ⟨q453, by decide, Or.inr (Or.inr (Or.inr ⟨rfl, rfl⟩))⟩
theorem kd1415 : jkd 1415 = 0 := rfl
theorem kd1416 : jkd 1416 = 0 := rfl
theorem kd1417 : jkd 1417 = 1 := rfl
theorem kd1500 : jkd 1500 = 2 := rfl
theorem kl1500 : 2 ≤ jkd 1500 := by rw [kd1500]; decide
theorem kd1501 : jkd 1501 = 3 := rfl
theorem kl1501 : 2 ≤ jkd 1501 := by rw [kd1501]; decide
theorem ka1501 : jkd 1501 = 3 ∨ jkd 1501 = 4 ∨ jkd 1501 = 5 := Or.inl rfl
theorem kg1501 : 3 ≤ jkd 1501 := by rw [kd1501]; decide
theorem kh1501 : jkd 1501 ≤ 8 := by rw [kd1501]; decide
theorem ja1501_3 : jat (jkd 1501) .int := ⟨q452, by decide, Or.inl ⟨rfl, rfl⟩⟩
theorem kd1502 : jkd 1502 = 0 := rfl
theorem kd1503 : jkd 1503 = 3 := rfl
theorem kl1503 : 2 ≤ jkd 1503 := by rw [kd1503]; decide
theorem ka1503 : jkd 1503 = 3 ∨ jkd 1503 = 4 ∨ jkd 1503 = 5 := Or.inl rfl
theorem kg1503 : 3 ≤ jkd 1503 := by rw [kd1503]; decide
theorem kh1503 : jkd 1503 ≤ 8 := by rw [kd1503]; decide
theorem ja1503_3 : jat (jkd 1503) .int := ⟨q452, by decide, Or.inl ⟨rfl, rfl⟩⟩
theorem kd1504 : jkd 1504 = 4 := rfl
theorem kl1504 : 2 ≤ jkd 1504 := by rw [kd1504]; decide
theorem ka1504 : jkd 1504 = 3 ∨ jkd 1504 = 4 ∨ jkd 1504 = 5 := Or.inr (Or.inl rfl)
theorem kg1504 : 3 ≤ jkd 1504 := by rw [kd1504]; decide
theorem kh1504 : jkd 1504 ≤ 8 := by rw [kd1504]; decide
theorem ja1504_4 : jat (jkd 1504) .byte := ⟨q340, by decide, Or.inr (Or.inl ⟨rfl, rfl⟩)⟩
theorem kd1505 : jkd 1505 = 5 := rfl
theorem kl1505 : 2 ≤ jkd 1505 := by rw [kd1505]; decide
theorem ka1505 : jkd 1505 = 3 ∨ jkd 1505 = 4 ∨ jkd 1505 = 5 := Or.inr (Or.inr rfl)
theorem kg1505 : 3 ≤ jkd 1505 := by rw [kd1505]; decide
theorem kh1505 : jkd 1505 ≤ 8 := by rw [kd1505]; decide
theorem ja1505_5 : jat (jkd 1505) .boolean := ⟨q454, by decide, Or.inr (Or.inr (Or.inl ⟨rfl, rfl⟩))⟩
theorem kd1506 : jkd 1506 = 5 := rfl
theorem kl1506 : 2 ≤ jkd 1506 := by rw [kd1506]; decide
theorem ka1506 : jkd 1506 = 3 ∨ jkd 1506 = 4 ∨ jkd 1506 = 5 := Or.inr (Or.inr rfl)
theorem kg1506 : 3 ≤ jkd 1506 := by rw [kd1506]; decide
theorem kh1506 : jkd 1506 ≤ 8 := by rw [kd1506]; decide
theorem ja1506_5 : jat (jkd 1506) .boolean := ⟨q454, by decide, Or.inr (Or.inr (Or.inl ⟨rfl, rfl⟩))⟩
theorem kd1507 : jkd 1507 = 3 := rfl
theorem kl1507 : 2 ≤ jkd 1507 := by rw [kd1507]; decide
theorem ka1507 : jkd 1507 = 3 ∨ jkd 1507 = 4 ∨ jkd 1507 = 5 := Or.inl rfl
theorem kg1507 : 3 ≤ jkd 1507 := by rw [kd1507]; decide
theorem kh1507 : jkd 1507 ≤ 8 := by rw [kd1507]; decide
theorem ja1507_3 : jat (jkd 1507) .int := ⟨q452, by decide, Or.inl ⟨rfl, rfl⟩⟩
theorem kd1508 : jkd 1508 = 0 := rfl
theorem kd1509 : jkd 1509 = 0 := rfl
theorem kd1510 : jkd 1510 = 0 := rfl
theorem kd1511 : jkd 1511 = 0 := rfl
theorem kd1512 : jkd 1512 = 0 := rfl
theorem kd1513 : jkd 1513 = 0 := rfl
theorem kd1600 : jkd 1600 = 2 := rfl
theorem kl1600 : 2 ≤ jkd 1600 := by rw [kd1600]; decide
theorem kd1601 : jkd 1601 = 0 := rfl
theorem kd1602 : jkd 1602 = 0 := rfl
theorem kd1603 : jkd 1603 = 6 := rfl
theorem kl1603 : 2 ≤ jkd 1603 := by rw [kd1603]; decide
theorem kg1603 : 3 ≤ jkd 1603 := by rw [kd1603]; decide
theorem kh1603 : jkd 1603 ≤ 8 := by rw [kd1603]; decide
theorem ja1603_6 : jat (jkd 1603) .long := ⟨q453, by decide, Or.inr (Or.inr (Or.inr ⟨rfl, rfl⟩))⟩
theorem kd1604 : jkd 1604 = 4 := rfl
theorem kl1604 : 2 ≤ jkd 1604 := by rw [kd1604]; decide
theorem ka1604 : jkd 1604 = 3 ∨ jkd 1604 = 4 ∨ jkd 1604 = 5 := Or.inr (Or.inl rfl)
theorem kg1604 : 3 ≤ jkd 1604 := by rw [kd1604]; decide
theorem kh1604 : jkd 1604 ≤ 8 := by rw [kd1604]; decide
theorem ja1604_4 : jat (jkd 1604) .byte := ⟨q340, by decide, Or.inr (Or.inl ⟨rfl, rfl⟩)⟩
theorem kd1605 : jkd 1605 = 3 := rfl
theorem kl1605 : 2 ≤ jkd 1605 := by rw [kd1605]; decide
theorem ka1605 : jkd 1605 = 3 ∨ jkd 1605 = 4 ∨ jkd 1605 = 5 := Or.inl rfl
theorem kg1605 : 3 ≤ jkd 1605 := by rw [kd1605]; decide
theorem kh1605 : jkd 1605 ≤ 8 := by rw [kd1605]; decide
theorem ja1605_3 : jat (jkd 1605) .int := ⟨q452, by decide, Or.inl ⟨rfl, rfl⟩⟩
theorem kd1606 : jkd 1606 = 0 := rfl
theorem kd1607 : jkd 1607 = 0 := rfl
theorem kd1608 : jkd 1608 = 0 := rfl
theorem kd1609 : jkd 1609 = 0 := rfl
theorem kd1610 : jkd 1610 = 4 := rfl
theorem kl1610 : 2 ≤ jkd 1610 := by rw [kd1610]; decide
theorem ka1610 : jkd 1610 = 3 ∨ jkd 1610 = 4 ∨ jkd 1610 = 5 := Or.inr (Or.inl rfl)
theorem kg1610 : 3 ≤ jkd 1610 := by rw [kd1610]; decide
theorem kh1610 : jkd 1610 ≤ 8 := by rw [kd1610]; decide
theorem ja1610_4 : jat (jkd 1610) .byte := ⟨q340, by decide, Or.inr (Or.inl ⟨rfl, rfl⟩)⟩
theorem kd1611 : jkd 1611 = 4 := rfl
theorem kl1611 : 2 ≤ jkd 1611 := by rw [kd1611]; decide
theorem ka1611 : jkd 1611 = 3 ∨ jkd 1611 = 4 ∨ jkd 1611 = 5 := Or.inr (Or.inl rfl)
theorem kg1611 : 3 ≤ jkd 1611 := by rw [kd1611]; decide
theorem kh1611 : jkd 1611 ≤ 8 := by rw [kd1611]; decide
theorem ja1611_4 : jat (jkd 1611) .byte := ⟨q340, by decide, Or.inr (Or.inl ⟨rfl, rfl⟩)⟩
theorem kd1612 : jkd 1612 = 3 := rfl
theorem kl1612 : 2 ≤ jkd 1612 := by rw [kd1612]; decide
theorem ka1612 : jkd 1612 = 3 ∨ jkd 1612 = 4 ∨ jkd 1612 = 5 := Or.inl rfl
theorem kg1612 : 3 ≤ jkd 1612 := by rw [kd1612]; decide
theorem kh1612 : jkd 1612 ≤ 8 := by rw [kd1612]; decide
theorem ja1612_3 : jat (jkd 1612) .int := ⟨q452, by decide, Or.inl ⟨rfl, rfl⟩⟩
theorem kd1613 : jkd 1613 = 3 := rfl
theorem kl1613 : 2 ≤ jkd 1613 := by rw [kd1613]; decide
theorem ka1613 : jkd 1613 = 3 ∨ jkd 1613 = 4 ∨ jkd 1613 = 5 := Or.inl rfl
theorem kg1613 : 3 ≤ jkd 1613 := by rw [kd1613]; decide
theorem kh1613 : jkd 1613 ≤ 8 := by rw [kd1613]; decide
theorem ja1613_3 : jat (jkd 1613) .int := ⟨q452, by decide, Or.inl ⟨rfl, rfl⟩⟩
theorem kd1614 : jkd 1614 = 0 := rfl
theorem kd1615 : jkd 1615 = 0 := rfl
theorem kd1616 : jkd 1616 = 0 := rfl
theorem kd1617 : jkd 1617 = 0 := rfl
theorem kd1618 : jkd 1618 = 0 := rfl
theorem kd1619 : jkd 1619 = 0 := rfl
theorem kd1620 : jkd 1620 = 0 := rfl
theorem kd1621 : jkd 1621 = 6 := rfl
theorem kl1621 : 2 ≤ jkd 1621 := by rw [kd1621]; decide
theorem kg1621 : 3 ≤ jkd 1621 := by rw [kd1621]; decide
theorem kh1621 : jkd 1621 ≤ 8 := by rw [kd1621]; decide
theorem ja1621_6 : jat (jkd 1621) .long := ⟨q453, by decide, Or.inr (Or.inr (Or.inr ⟨rfl, rfl⟩))⟩
theorem kd1622 : jkd 1622 = 4 := rfl
theorem kl1622 : 2 ≤ jkd 1622 := by rw [kd1622]; decide
theorem ka1622 : jkd 1622 = 3 ∨ jkd 1622 = 4 ∨ jkd 1622 = 5 := Or.inr (Or.inl rfl)
theorem kg1622 : 3 ≤ jkd 1622 := by rw [kd1622]; decide
theorem kh1622 : jkd 1622 ≤ 8 := by rw [kd1622]; decide
theorem ja1622_4 : jat (jkd 1622) .byte := ⟨q340, by decide, Or.inr (Or.inl ⟨rfl, rfl⟩)⟩
theorem kd1623 : jkd 1623 = 1 := rfl
theorem kd1800 : jkd 1800 = 0 := rfl
theorem kd1801 : jkd 1801 = 2 := rfl
theorem kl1801 : 2 ≤ jkd 1801 := by rw [kd1801]; decide
theorem kd1802 : jkd 1802 = 0 := rfl
theorem kd9003 : jkd 9003 = 3 := rfl
theorem kl9003 : 2 ≤ jkd 9003 := by rw [kd9003]; decide
theorem ka9003 : jkd 9003 = 3 ∨ jkd 9003 = 4 ∨ jkd 9003 = 5 := Or.inl rfl
theorem kg9003 : 3 ≤ jkd 9003 := by rw [kd9003]; decide
theorem kh9003 : jkd 9003 ≤ 8 := by rw [kd9003]; decide
theorem ja9003_3 : jat (jkd 9003) .int := ⟨q452, by decide, Or.inl ⟨rfl, rfl⟩⟩
theorem kd9004 : jkd 9004 = 4 := rfl
theorem kl9004 : 2 ≤ jkd 9004 := by rw [kd9004]; decide
theorem ka9004 : jkd 9004 = 3 ∨ jkd 9004 = 4 ∨ jkd 9004 = 5 := Or.inr (Or.inl rfl)
theorem kg9004 : 3 ≤ jkd 9004 := by rw [kd9004]; decide
theorem kh9004 : jkd 9004 ≤ 8 := by rw [kd9004]; decide
theorem ja9004_4 : jat (jkd 9004) .byte := ⟨q340, by decide, Or.inr (Or.inl ⟨rfl, rfl⟩)⟩
theorem kd9005 : jkd 9005 = 5 := rfl
theorem kl9005 : 2 ≤ jkd 9005 := by rw [kd9005]; decide
theorem ka9005 : jkd 9005 = 3 ∨ jkd 9005 = 4 ∨ jkd 9005 = 5 := Or.inr (Or.inr rfl)
theorem kg9005 : 3 ≤ jkd 9005 := by rw [kd9005]; decide
theorem kh9005 : jkd 9005 ≤ 8 := by rw [kd9005]; decide
theorem ja9005_5 : jat (jkd 9005) .boolean := ⟨q454, by decide, Or.inr (Or.inr (Or.inl ⟨rfl, rfl⟩))⟩
theorem kd9006 : jkd 9006 = 6 := rfl
theorem kl9006 : 2 ≤ jkd 9006 := by rw [kd9006]; decide
theorem kg9006 : 3 ≤ jkd 9006 := by rw [kd9006]; decide
theorem kh9006 : jkd 9006 ≤ 8 := by rw [kd9006]; decide
theorem ja9006_6 : jat (jkd 9006) .long := ⟨q453, by decide, Or.inr (Or.inr (Or.inr ⟨rfl, rfl⟩))⟩
theorem kd9008 : jkd 9008 = 8 := rfl
theorem kl9008 : 2 ≤ jkd 9008 := by rw [kd9008]; decide
theorem kg9008 : 3 ≤ jkd 9008 := by rw [kd9008]; decide
theorem kh9008 : jkd 9008 ≤ 8 := by rw [kd9008]; decide
theorem tp100 : jtp 100 = (.array .byte) := by decide +kernel
theorem wi100 {x : jCx} {ret : Option FieldType} {hh : List (Nat × Nat × Nat × Nat)} (hm : jMt x "<init>" ret hh) : jWr x "CodeLayout" 100 := jWr_i hm fun C T N h => by cases h; exact ⟨rfl, rfl⟩
theorem nr100 (v : Nat) : narrow (jtp 100) (jrv v) = jrv v := by rw [tp100]; exact jnr_a _ v
theorem fr100 (v : Nat) : fits (jtp 100) (jrv v) = true := by rw [tp100]; exact jft_a _ v
theorem tp101 : jtp 101 = .int := by decide +kernel
theorem wf101 {x : jCx} {own : String} : jWr x own 101 := jWr_n fun C T N h => by cases h; rfl
theorem ni101 (v : Int32) : narrow (jtp 101) (.int v) = .int v := by rw [tp101]; rfl
theorem fi101 (v : Int32) : fits (jtp 101) (.int v) = true := by rw [tp101]; rfl
theorem tp102 : jtp 102 = .int := by decide +kernel
theorem wf102 {x : jCx} {own : String} : jWr x own 102 := jWr_n fun C T N h => by cases h; rfl
theorem ni102 (v : Int32) : narrow (jtp 102) (.int v) = .int v := by rw [tp102]; rfl
theorem fi102 (v : Int32) : fits (jtp 102) (.int v) = true := by rw [tp102]; rfl
theorem tp103 : jtp 103 = .int := by decide +kernel
theorem wf103 {x : jCx} {own : String} : jWr x own 103 := jWr_n fun C T N h => by cases h; rfl
theorem ni103 (v : Int32) : narrow (jtp 103) (.int v) = .int v := by rw [tp103]; rfl
theorem fi103 (v : Int32) : fits (jtp 103) (.int v) = true := by rw [tp103]; rfl
theorem tp104 : jtp 104 = (.object "CodeLayout$Program") := by decide +kernel
theorem wf104 {x : jCx} {own : String} : jWr x own 104 := jWr_n fun C T N h => by cases h; rfl
theorem nr104 (v : Nat) : narrow (jtp 104) (jrv v) = jrv v := by rw [tp104]; exact jnr_o _ v
theorem fr104 (v : Nat) : fits (jtp 104) (jrv v) = true := by rw [tp104]; exact jft_o _ v
theorem tp105 : jtp 105 = (.object "CodeLayout$Program") := by decide +kernel
theorem wf105 {x : jCx} {own : String} : jWr x own 105 := jWr_n fun C T N h => by cases h; rfl
theorem nr105 (v : Nat) : narrow (jtp 105) (jrv v) = jrv v := by rw [tp105]; exact jnr_o _ v
theorem fr105 (v : Nat) : fits (jtp 105) (jrv v) = true := by rw [tp105]; exact jft_o _ v
theorem tp106 : jtp 106 = .boolean := by decide +kernel
theorem wf106 {x : jCx} {own : String} : jWr x own 106 := jWr_n fun C T N h => by cases h; rfl
theorem nz106 {v : Int32} (h : i2z v = v) : narrow (jtp 106) (.int v) = .int v := by rw [tp106]; exact jzn h
theorem fz106 {v : Int32} (h : i2z v = v) : fits (jtp 106) (.int v) = true := by rw [tp106]; exact jzf h
theorem tp107 : jtp 107 = .boolean := by decide +kernel
theorem wf107 {x : jCx} {own : String} : jWr x own 107 := jWr_n fun C T N h => by cases h; rfl
theorem nz107 {v : Int32} (h : i2z v = v) : narrow (jtp 107) (.int v) = .int v := by rw [tp107]; exact jzn h
theorem fz107 {v : Int32} (h : i2z v = v) : fits (jtp 107) (.int v) = true := by rw [tp107]; exact jzf h
theorem tp108 : jtp 108 = (.object "CodeLayout$Counts") := by decide +kernel
theorem wi108 {x : jCx} {ret : Option FieldType} {hh : List (Nat × Nat × Nat × Nat)} (hm : jMt x "<init>" ret hh) : jWr x "CodeLayout" 108 := jWr_i hm fun C T N h => by cases h; exact ⟨rfl, rfl⟩
theorem nr108 (v : Nat) : narrow (jtp 108) (jrv v) = jrv v := by rw [tp108]; exact jnr_o _ v
theorem fr108 (v : Nat) : fits (jtp 108) (jrv v) = true := by rw [tp108]; exact jft_o _ v
theorem tp109 : jtp 109 = (.object "CodeLayout$Counts") := by decide +kernel
theorem wi109 {x : jCx} {ret : Option FieldType} {hh : List (Nat × Nat × Nat × Nat)} (hm : jMt x "<init>" ret hh) : jWr x "CodeLayout" 109 := jWr_i hm fun C T N h => by cases h; exact ⟨rfl, rfl⟩
theorem nr109 (v : Nat) : narrow (jtp 109) (jrv v) = jrv v := by rw [tp109]; exact jnr_o _ v
theorem fr109 (v : Nat) : fits (jtp 109) (jrv v) = true := by rw [tp109]; exact jft_o _ v
theorem tp110 : jtp 110 = (.object "CodeLayout$Counts") := by decide +kernel
theorem wi110 {x : jCx} {ret : Option FieldType} {hh : List (Nat × Nat × Nat × Nat)} (hm : jMt x "<init>" ret hh) : jWr x "CodeLayout" 110 := jWr_i hm fun C T N h => by cases h; exact ⟨rfl, rfl⟩
theorem nr110 (v : Nat) : narrow (jtp 110) (jrv v) = jrv v := by rw [tp110]; exact jnr_o _ v
theorem fr110 (v : Nat) : fits (jtp 110) (jrv v) = true := by rw [tp110]; exact jft_o _ v
theorem tp111 : jtp 111 = (.object "CodeLayout$Ordering") := by decide +kernel
theorem wf111 {x : jCx} {own : String} : jWr x own 111 := jWr_n fun C T N h => by cases h; rfl
theorem nr111 (v : Nat) : narrow (jtp 111) (jrv v) = jrv v := by rw [tp111]; exact jnr_o _ v
theorem fr111 (v : Nat) : fits (jtp 111) (jrv v) = true := by rw [tp111]; exact jft_o _ v
theorem tp112 : jtp 112 = (.object "CodeLayout$Writing") := by decide +kernel
theorem wf112 {x : jCx} {own : String} : jWr x own 112 := jWr_n fun C T N h => by cases h; rfl
theorem nr112 (v : Nat) : narrow (jtp 112) (jrv v) = jrv v := by rw [tp112]; exact jnr_o _ v
theorem fr112 (v : Nat) : fits (jtp 112) (jrv v) = true := by rw [tp112]; exact jft_o _ v
theorem tp113 : jtp 113 = (.object "CodeLayout$Writing") := by decide +kernel
theorem wf113 {x : jCx} {own : String} : jWr x own 113 := jWr_n fun C T N h => by cases h; rfl
theorem nr113 (v : Nat) : narrow (jtp 113) (jrv v) = jrv v := by rw [tp113]; exact jnr_o _ v
theorem fr113 (v : Nat) : fits (jtp 113) (jrv v) = true := by rw [tp113]; exact jft_o _ v
theorem tp114 : jtp 114 = (.array (.object "CodeLayout$Machine")) := by decide +kernel
theorem wi114 {x : jCx} {ret : Option FieldType} {hh : List (Nat × Nat × Nat × Nat)} (hm : jMt x "<init>" ret hh) : jWr x "CodeLayout" 114 := jWr_i hm fun C T N h => by cases h; exact ⟨rfl, rfl⟩
theorem nr114 (v : Nat) : narrow (jtp 114) (jrv v) = jrv v := by rw [tp114]; exact jnr_a _ v
theorem fr114 (v : Nat) : fits (jtp 114) (jrv v) = true := by rw [tp114]; exact jft_a _ v
theorem tp115 : jtp 115 = .boolean := by decide +kernel
theorem wf115 {x : jCx} {own : String} : jWr x own 115 := jWr_n fun C T N h => by cases h; rfl
theorem nz115 {v : Int32} (h : i2z v = v) : narrow (jtp 115) (.int v) = .int v := by rw [tp115]; exact jzn h
theorem fz115 {v : Int32} (h : i2z v = v) : fits (jtp 115) (.int v) = true := by rw [tp115]; exact jzf h
theorem tp116 : jtp 116 = (.object "java/util/ArrayList") := by decide +kernel
theorem wi116 {x : jCx} {ret : Option FieldType} {hh : List (Nat × Nat × Nat × Nat)} (hm : jMt x "<init>" ret hh) : jWr x "CodeLayout" 116 := jWr_i hm fun C T N h => by cases h; exact ⟨rfl, rfl⟩
theorem nr116 (v : Nat) : narrow (jtp 116) (jrv v) = jrv v := by rw [tp116]; exact jnr_o _ v
theorem fr116 (v : Nat) : fits (jtp 116) (jrv v) = true := by rw [tp116]; exact jft_o _ v
theorem tp117 : jtp 117 = (.object "java/util/ArrayList") := by decide +kernel
theorem wi117 {x : jCx} {ret : Option FieldType} {hh : List (Nat × Nat × Nat × Nat)} (hm : jMt x "<init>" ret hh) : jWr x "CodeLayout" 117 := jWr_i hm fun C T N h => by cases h; exact ⟨rfl, rfl⟩
theorem nr117 (v : Nat) : narrow (jtp 117) (jrv v) = jrv v := by rw [tp117]; exact jnr_o _ v
theorem fr117 (v : Nat) : fits (jtp 117) (jrv v) = true := by rw [tp117]; exact jft_o _ v
theorem tp118 : jtp 118 = (.object "java/util/ArrayList") := by decide +kernel
theorem wi118 {x : jCx} {ret : Option FieldType} {hh : List (Nat × Nat × Nat × Nat)} (hm : jMt x "<init>" ret hh) : jWr x "CodeLayout" 118 := jWr_i hm fun C T N h => by cases h; exact ⟨rfl, rfl⟩
theorem nr118 (v : Nat) : narrow (jtp 118) (jrv v) = jrv v := by rw [tp118]; exact jnr_o _ v
theorem fr118 (v : Nat) : fits (jtp 118) (jrv v) = true := by rw [tp118]; exact jft_o _ v
theorem tp119 : jtp 119 = (.object "CodeLayout$Program") := by decide +kernel
theorem wf119 {x : jCx} {own : String} : jWr x own 119 := jWr_n fun C T N h => by cases h; rfl
theorem nr119 (v : Nat) : narrow (jtp 119) (jrv v) = jrv v := by rw [tp119]; exact jnr_o _ v
theorem fr119 (v : Nat) : fits (jtp 119) (jrv v) = true := by rw [tp119]; exact jft_o _ v
theorem tp120 : jtp 120 = (.object "CodeLayout$Trouble") := by decide +kernel
theorem wi120 {x : jCx} {ret : Option FieldType} {hh : List (Nat × Nat × Nat × Nat)} (hm : jMt x "<init>" ret hh) : jWr x "CodeLayout" 120 := jWr_i hm fun C T N h => by cases h; exact ⟨rfl, rfl⟩
theorem nr120 (v : Nat) : narrow (jtp 120) (jrv v) = jrv v := by rw [tp120]; exact jnr_o _ v
theorem fr120 (v : Nat) : fits (jtp 120) (jrv v) = true := by rw [tp120]; exact jft_o _ v
theorem tp121 : jtp 121 = (.object "CodeLayout$Shape") := by decide +kernel
theorem wi121 {x : jCx} {ret : Option FieldType} {hh : List (Nat × Nat × Nat × Nat)} (hm : jMt x "<init>" ret hh) : jWr x "CodeLayout" 121 := jWr_i hm fun C T N h => by cases h; exact ⟨rfl, rfl⟩
theorem nr121 (v : Nat) : narrow (jtp 121) (jrv v) = jrv v := by rw [tp121]; exact jnr_o _ v
theorem fr121 (v : Nat) : fits (jtp 121) (jrv v) = true := by rw [tp121]; exact jft_o _ v
theorem tp122 : jtp 122 = (.array .int) := by decide +kernel
theorem wf122 {x : jCx} {own : String} : jWr x own 122 := jWr_n fun C T N h => by cases h; rfl
theorem nr122 (v : Nat) : narrow (jtp 122) (jrv v) = jrv v := by rw [tp122]; exact jnr_a _ v
theorem fr122 (v : Nat) : fits (jtp 122) (jrv v) = true := by rw [tp122]; exact jft_a _ v
theorem tp123 : jtp 123 = .int := by decide +kernel
theorem wf123 {x : jCx} {own : String} : jWr x own 123 := jWr_n fun C T N h => by cases h; rfl
theorem ni123 (v : Int32) : narrow (jtp 123) (.int v) = .int v := by rw [tp123]; rfl
theorem fi123 (v : Int32) : fits (jtp 123) (.int v) = true := by rw [tp123]; rfl
theorem tp200 : jtp 200 = (.object "CodeLayout$Trouble") := by decide +kernel
theorem wi200 {x : jCx} {ret : Option FieldType} {hh : List (Nat × Nat × Nat × Nat)} (hm : jMt x "<init>" ret hh) : jWr x "CodeLayout$Program" 200 := jWr_i hm fun C T N h => by cases h; exact ⟨rfl, rfl⟩
theorem nr200 (v : Nat) : narrow (jtp 200) (jrv v) = jrv v := by rw [tp200]; exact jnr_o _ v
theorem fr200 (v : Nat) : fits (jtp 200) (jrv v) = true := by rw [tp200]; exact jft_o _ v
theorem tp201 : jtp 201 = (.object "CodeLayout$Shape") := by decide +kernel
theorem wi201 {x : jCx} {ret : Option FieldType} {hh : List (Nat × Nat × Nat × Nat)} (hm : jMt x "<init>" ret hh) : jWr x "CodeLayout$Program" 201 := jWr_i hm fun C T N h => by cases h; exact ⟨rfl, rfl⟩
theorem nr201 (v : Nat) : narrow (jtp 201) (jrv v) = jrv v := by rw [tp201]; exact jnr_o _ v
theorem fr201 (v : Nat) : fits (jtp 201) (jrv v) = true := by rw [tp201]; exact jft_o _ v
theorem tp202 : jtp 202 = (.object "CodeLayout$Held") := by decide +kernel
theorem wi202 {x : jCx} {ret : Option FieldType} {hh : List (Nat × Nat × Nat × Nat)} (hm : jMt x "<init>" ret hh) : jWr x "CodeLayout$Program" 202 := jWr_i hm fun C T N h => by cases h; exact ⟨rfl, rfl⟩
theorem nr202 (v : Nat) : narrow (jtp 202) (jrv v) = jrv v := by rw [tp202]; exact jnr_o _ v
theorem fr202 (v : Nat) : fits (jtp 202) (jrv v) = true := by rw [tp202]; exact jft_o _ v
theorem tp203 : jtp 203 = .int := by decide +kernel
theorem wf203 {x : jCx} {own : String} : jWr x own 203 := jWr_n fun C T N h => by cases h; rfl
theorem ni203 (v : Int32) : narrow (jtp 203) (.int v) = .int v := by rw [tp203]; rfl
theorem fi203 (v : Int32) : fits (jtp 203) (.int v) = true := by rw [tp203]; rfl
theorem tp204 : jtp 204 = (.array .int) := by decide +kernel
theorem wf204 {x : jCx} {own : String} : jWr x own 204 := jWr_n fun C T N h => by cases h; rfl
theorem nr204 (v : Nat) : narrow (jtp 204) (jrv v) = jrv v := by rw [tp204]; exact jnr_a _ v
theorem fr204 (v : Nat) : fits (jtp 204) (jrv v) = true := by rw [tp204]; exact jft_a _ v
theorem tp205 : jtp 205 = (.array .int) := by decide +kernel
theorem wf205 {x : jCx} {own : String} : jWr x own 205 := jWr_n fun C T N h => by cases h; rfl
theorem nr205 (v : Nat) : narrow (jtp 205) (jrv v) = jrv v := by rw [tp205]; exact jnr_a _ v
theorem fr205 (v : Nat) : fits (jtp 205) (jrv v) = true := by rw [tp205]; exact jft_a _ v
theorem tp206 : jtp 206 = (.array .int) := by decide +kernel
theorem wf206 {x : jCx} {own : String} : jWr x own 206 := jWr_n fun C T N h => by cases h; rfl
theorem nr206 (v : Nat) : narrow (jtp 206) (jrv v) = jrv v := by rw [tp206]; exact jnr_a _ v
theorem fr206 (v : Nat) : fits (jtp 206) (jrv v) = true := by rw [tp206]; exact jft_a _ v
theorem tp207 : jtp 207 = (.array .int) := by decide +kernel
theorem wf207 {x : jCx} {own : String} : jWr x own 207 := jWr_n fun C T N h => by cases h; rfl
theorem nr207 (v : Nat) : narrow (jtp 207) (jrv v) = jrv v := by rw [tp207]; exact jnr_a _ v
theorem fr207 (v : Nat) : fits (jtp 207) (jrv v) = true := by rw [tp207]; exact jft_a _ v
theorem tp208 : jtp 208 = (.array .boolean) := by decide +kernel
theorem wf208 {x : jCx} {own : String} : jWr x own 208 := jWr_n fun C T N h => by cases h; rfl
theorem nr208 (v : Nat) : narrow (jtp 208) (jrv v) = jrv v := by rw [tp208]; exact jnr_a _ v
theorem fr208 (v : Nat) : fits (jtp 208) (jrv v) = true := by rw [tp208]; exact jft_a _ v
theorem tp209 : jtp 209 = (.object "CodeLayout$Row") := by decide +kernel
theorem wi209 {x : jCx} {ret : Option FieldType} {hh : List (Nat × Nat × Nat × Nat)} (hm : jMt x "<init>" ret hh) : jWr x "CodeLayout$Program" 209 := jWr_i hm fun C T N h => by cases h; exact ⟨rfl, rfl⟩
theorem nr209 (v : Nat) : narrow (jtp 209) (jrv v) = jrv v := by rw [tp209]; exact jnr_o _ v
theorem fr209 (v : Nat) : fits (jtp 209) (jrv v) = true := by rw [tp209]; exact jft_o _ v
theorem tp210 : jtp 210 = (.object "CodeLayout$Row") := by decide +kernel
theorem wi210 {x : jCx} {ret : Option FieldType} {hh : List (Nat × Nat × Nat × Nat)} (hm : jMt x "<init>" ret hh) : jWr x "CodeLayout$Program" 210 := jWr_i hm fun C T N h => by cases h; exact ⟨rfl, rfl⟩
theorem nr210 (v : Nat) : narrow (jtp 210) (jrv v) = jrv v := by rw [tp210]; exact jnr_o _ v
theorem fr210 (v : Nat) : fits (jtp 210) (jrv v) = true := by rw [tp210]; exact jft_o _ v
theorem tp211 : jtp 211 = (.object "CodeLayout$Row") := by decide +kernel
theorem wi211 {x : jCx} {ret : Option FieldType} {hh : List (Nat × Nat × Nat × Nat)} (hm : jMt x "<init>" ret hh) : jWr x "CodeLayout$Program" 211 := jWr_i hm fun C T N h => by cases h; exact ⟨rfl, rfl⟩
theorem nr211 (v : Nat) : narrow (jtp 211) (jrv v) = jrv v := by rw [tp211]; exact jnr_o _ v
theorem fr211 (v : Nat) : fits (jtp 211) (jrv v) = true := by rw [tp211]; exact jft_o _ v
theorem tp212 : jtp 212 = (.array .int) := by decide +kernel
theorem wf212 {x : jCx} {own : String} : jWr x own 212 := jWr_n fun C T N h => by cases h; rfl
theorem nr212 (v : Nat) : narrow (jtp 212) (jrv v) = jrv v := by rw [tp212]; exact jnr_a _ v
theorem fr212 (v : Nat) : fits (jtp 212) (jrv v) = true := by rw [tp212]; exact jft_a _ v
theorem tp213 : jtp 213 = (.object "CodeLayout$Row") := by decide +kernel
theorem wi213 {x : jCx} {ret : Option FieldType} {hh : List (Nat × Nat × Nat × Nat)} (hm : jMt x "<init>" ret hh) : jWr x "CodeLayout$Program" 213 := jWr_i hm fun C T N h => by cases h; exact ⟨rfl, rfl⟩
theorem nr213 (v : Nat) : narrow (jtp 213) (jrv v) = jrv v := by rw [tp213]; exact jnr_o _ v
theorem fr213 (v : Nat) : fits (jtp 213) (jrv v) = true := by rw [tp213]; exact jft_o _ v
theorem tp214 : jtp 214 = (.array .int) := by decide +kernel
theorem wf214 {x : jCx} {own : String} : jWr x own 214 := jWr_n fun C T N h => by cases h; rfl
theorem nr214 (v : Nat) : narrow (jtp 214) (jrv v) = jrv v := by rw [tp214]; exact jnr_a _ v
theorem fr214 (v : Nat) : fits (jtp 214) (jrv v) = true := by rw [tp214]; exact jft_a _ v
theorem tp215 : jtp 215 = (.array .int) := by decide +kernel
theorem wf215 {x : jCx} {own : String} : jWr x own 215 := jWr_n fun C T N h => by cases h; rfl
theorem nr215 (v : Nat) : narrow (jtp 215) (jrv v) = jrv v := by rw [tp215]; exact jnr_a _ v
theorem fr215 (v : Nat) : fits (jtp 215) (jrv v) = true := by rw [tp215]; exact jft_a _ v
theorem tp216 : jtp 216 = (.array .boolean) := by decide +kernel
theorem wf216 {x : jCx} {own : String} : jWr x own 216 := jWr_n fun C T N h => by cases h; rfl
theorem nr216 (v : Nat) : narrow (jtp 216) (jrv v) = jrv v := by rw [tp216]; exact jnr_a _ v
theorem fr216 (v : Nat) : fits (jtp 216) (jrv v) = true := by rw [tp216]; exact jft_a _ v
theorem tp217 : jtp 217 = .int := by decide +kernel
theorem wf217 {x : jCx} {own : String} : jWr x own 217 := jWr_n fun C T N h => by cases h; rfl
theorem ni217 (v : Int32) : narrow (jtp 217) (.int v) = .int v := by rw [tp217]; rfl
theorem fi217 (v : Int32) : fits (jtp 217) (.int v) = true := by rw [tp217]; rfl
theorem tp300 : jtp 300 = .int := by decide +kernel
theorem wf300 {x : jCx} {own : String} : jWr x own 300 := jWr_n fun C T N h => by cases h; rfl
theorem ni300 (v : Int32) : narrow (jtp 300) (.int v) = .int v := by rw [tp300]; rfl
theorem fi300 (v : Int32) : fits (jtp 300) (.int v) = true := by rw [tp300]; rfl
theorem tp301 : jtp 301 = .int := by decide +kernel
theorem wf301 {x : jCx} {own : String} : jWr x own 301 := jWr_n fun C T N h => by cases h; rfl
theorem ni301 (v : Int32) : narrow (jtp 301) (.int v) = .int v := by rw [tp301]; rfl
theorem fi301 (v : Int32) : fits (jtp 301) (.int v) = true := by rw [tp301]; rfl
theorem tp302 : jtp 302 = (.object "java/lang/IllegalStateException") := by decide +kernel
theorem wi302 {x : jCx} {ret : Option FieldType} {hh : List (Nat × Nat × Nat × Nat)} (hm : jMt x "<init>" ret hh) : jWr x "CodeLayout$Trouble" 302 := jWr_i hm fun C T N h => by cases h; exact ⟨rfl, rfl⟩
theorem nr302 (v : Nat) : narrow (jtp 302) (jrv v) = jrv v := by rw [tp302]; exact jnr_o _ v
theorem fr302 (v : Nat) : fits (jtp 302) (jrv v) = true := by rw [tp302]; exact jft_o _ v
theorem tp400 : jtp 400 = (.object "CodeLayout$Trouble") := by decide +kernel
theorem wi400 {x : jCx} {ret : Option FieldType} {hh : List (Nat × Nat × Nat × Nat)} (hm : jMt x "<init>" ret hh) : jWr x "CodeLayout$Shape" 400 := jWr_i hm fun C T N h => by cases h; exact ⟨rfl, rfl⟩
theorem nr400 (v : Nat) : narrow (jtp 400) (jrv v) = jrv v := by rw [tp400]; exact jnr_o _ v
theorem fr400 (v : Nat) : fits (jtp 400) (jrv v) = true := by rw [tp400]; exact jft_o _ v
theorem tp401 : jtp 401 = (.object "CodeLayout$Source") := by decide +kernel
theorem wf401 {x : jCx} {own : String} : jWr x own 401 := jWr_n fun C T N h => by cases h; rfl
theorem nr401 (v : Nat) : narrow (jtp 401) (jrv v) = jrv v := by rw [tp401]; exact jnr_o _ v
theorem fr401 (v : Nat) : fits (jtp 401) (jrv v) = true := by rw [tp401]; exact jft_o _ v
theorem tp402 : jtp 402 = .int := by decide +kernel
theorem wf402 {x : jCx} {own : String} : jWr x own 402 := jWr_n fun C T N h => by cases h; rfl
theorem ni402 (v : Int32) : narrow (jtp 402) (.int v) = .int v := by rw [tp402]; rfl
theorem fi402 (v : Int32) : fits (jtp 402) (.int v) = true := by rw [tp402]; rfl
theorem tp403 : jtp 403 = .int := by decide +kernel
theorem wf403 {x : jCx} {own : String} : jWr x own 403 := jWr_n fun C T N h => by cases h; rfl
theorem ni403 (v : Int32) : narrow (jtp 403) (.int v) = .int v := by rw [tp403]; rfl
theorem fi403 (v : Int32) : fits (jtp 403) (.int v) = true := by rw [tp403]; rfl
theorem tp404 : jtp 404 = .long := by decide +kernel
theorem wf404 {x : jCx} {own : String} : jWr x own 404 := jWr_n fun C T N h => by cases h; rfl
theorem nl404 (v : Int64) : narrow (jtp 404) (.long v) = .long v := by rw [tp404]; rfl
theorem ff404 (v : Int64) : fits (jtp 404) (.long v) = true := by rw [tp404]; rfl
theorem tp405 : jtp 405 = .int := by decide +kernel
theorem wf405 {x : jCx} {own : String} : jWr x own 405 := jWr_n fun C T N h => by cases h; rfl
theorem ni405 (v : Int32) : narrow (jtp 405) (.int v) = .int v := by rw [tp405]; rfl
theorem fi405 (v : Int32) : fits (jtp 405) (.int v) = true := by rw [tp405]; rfl
theorem tp406 : jtp 406 = .int := by decide +kernel
theorem wf406 {x : jCx} {own : String} : jWr x own 406 := jWr_n fun C T N h => by cases h; rfl
theorem ni406 (v : Int32) : narrow (jtp 406) (.int v) = .int v := by rw [tp406]; rfl
theorem fi406 (v : Int32) : fits (jtp 406) (.int v) = true := by rw [tp406]; rfl
theorem tp407 : jtp 407 = (.array .int) := by decide +kernel
theorem wi407 {x : jCx} {ret : Option FieldType} {hh : List (Nat × Nat × Nat × Nat)} (hm : jMt x "<init>" ret hh) : jWr x "CodeLayout$Shape" 407 := jWr_i hm fun C T N h => by cases h; exact ⟨rfl, rfl⟩
theorem nr407 (v : Nat) : narrow (jtp 407) (jrv v) = jrv v := by rw [tp407]; exact jnr_a _ v
theorem fr407 (v : Nat) : fits (jtp 407) (jrv v) = true := by rw [tp407]; exact jft_a _ v
theorem tp408 : jtp 408 = (.array .long) := by decide +kernel
theorem wi408 {x : jCx} {ret : Option FieldType} {hh : List (Nat × Nat × Nat × Nat)} (hm : jMt x "<init>" ret hh) : jWr x "CodeLayout$Shape" 408 := jWr_i hm fun C T N h => by cases h; exact ⟨rfl, rfl⟩
theorem nr408 (v : Nat) : narrow (jtp 408) (jrv v) = jrv v := by rw [tp408]; exact jnr_a _ v
theorem fr408 (v : Nat) : fits (jtp 408) (jrv v) = true := by rw [tp408]; exact jft_a _ v
theorem tp409 : jtp 409 = (.array .int) := by decide +kernel
theorem wi409 {x : jCx} {ret : Option FieldType} {hh : List (Nat × Nat × Nat × Nat)} (hm : jMt x "<init>" ret hh) : jWr x "CodeLayout$Shape" 409 := jWr_i hm fun C T N h => by cases h; exact ⟨rfl, rfl⟩
theorem nr409 (v : Nat) : narrow (jtp 409) (jrv v) = jrv v := by rw [tp409]; exact jnr_a _ v
theorem fr409 (v : Nat) : fits (jtp 409) (jrv v) = true := by rw [tp409]; exact jft_a _ v
theorem tp410 : jtp 410 = (.array .int) := by decide +kernel
theorem wi410 {x : jCx} {ret : Option FieldType} {hh : List (Nat × Nat × Nat × Nat)} (hm : jMt x "<init>" ret hh) : jWr x "CodeLayout$Shape" 410 := jWr_i hm fun C T N h => by cases h; exact ⟨rfl, rfl⟩
theorem nr410 (v : Nat) : narrow (jtp 410) (jrv v) = jrv v := by rw [tp410]; exact jnr_a _ v
theorem fr410 (v : Nat) : fits (jtp 410) (jrv v) = true := by rw [tp410]; exact jft_a _ v
theorem tp411 : jtp 411 = (.array .int) := by decide +kernel
theorem wi411 {x : jCx} {ret : Option FieldType} {hh : List (Nat × Nat × Nat × Nat)} (hm : jMt x "<init>" ret hh) : jWr x "CodeLayout$Shape" 411 := jWr_i hm fun C T N h => by cases h; exact ⟨rfl, rfl⟩
theorem nr411 (v : Nat) : narrow (jtp 411) (jrv v) = jrv v := by rw [tp411]; exact jnr_a _ v
theorem fr411 (v : Nat) : fits (jtp 411) (jrv v) = true := by rw [tp411]; exact jft_a _ v
theorem tp412 : jtp 412 = (.array .int) := by decide +kernel
theorem wi412 {x : jCx} {ret : Option FieldType} {hh : List (Nat × Nat × Nat × Nat)} (hm : jMt x "<init>" ret hh) : jWr x "CodeLayout$Shape" 412 := jWr_i hm fun C T N h => by cases h; exact ⟨rfl, rfl⟩
theorem nr412 (v : Nat) : narrow (jtp 412) (jrv v) = jrv v := by rw [tp412]; exact jnr_a _ v
theorem fr412 (v : Nat) : fits (jtp 412) (jrv v) = true := by rw [tp412]; exact jft_a _ v
theorem tp413 : jtp 413 = (.array .long) := by decide +kernel
theorem wi413 {x : jCx} {ret : Option FieldType} {hh : List (Nat × Nat × Nat × Nat)} (hm : jMt x "<init>" ret hh) : jWr x "CodeLayout$Shape" 413 := jWr_i hm fun C T N h => by cases h; exact ⟨rfl, rfl⟩
theorem nr413 (v : Nat) : narrow (jtp 413) (jrv v) = jrv v := by rw [tp413]; exact jnr_a _ v
theorem fr413 (v : Nat) : fits (jtp 413) (jrv v) = true := by rw [tp413]; exact jft_a _ v
theorem tp414 : jtp 414 = (.array .int) := by decide +kernel
theorem wi414 {x : jCx} {ret : Option FieldType} {hh : List (Nat × Nat × Nat × Nat)} (hm : jMt x "<init>" ret hh) : jWr x "CodeLayout$Shape" 414 := jWr_i hm fun C T N h => by cases h; exact ⟨rfl, rfl⟩
theorem nr414 (v : Nat) : narrow (jtp 414) (jrv v) = jrv v := by rw [tp414]; exact jnr_a _ v
theorem fr414 (v : Nat) : fits (jtp 414) (jrv v) = true := by rw [tp414]; exact jft_a _ v
theorem tp415 : jtp 415 = (.array .int) := by decide +kernel
theorem wi415 {x : jCx} {ret : Option FieldType} {hh : List (Nat × Nat × Nat × Nat)} (hm : jMt x "<init>" ret hh) : jWr x "CodeLayout$Shape" 415 := jWr_i hm fun C T N h => by cases h; exact ⟨rfl, rfl⟩
theorem nr415 (v : Nat) : narrow (jtp 415) (jrv v) = jrv v := by rw [tp415]; exact jnr_a _ v
theorem fr415 (v : Nat) : fits (jtp 415) (jrv v) = true := by rw [tp415]; exact jft_a _ v
theorem tp416 : jtp 416 = (.array .int) := by decide +kernel
theorem wi416 {x : jCx} {ret : Option FieldType} {hh : List (Nat × Nat × Nat × Nat)} (hm : jMt x "<init>" ret hh) : jWr x "CodeLayout$Shape" 416 := jWr_i hm fun C T N h => by cases h; exact ⟨rfl, rfl⟩
theorem nr416 (v : Nat) : narrow (jtp 416) (jrv v) = jrv v := by rw [tp416]; exact jnr_a _ v
theorem fr416 (v : Nat) : fits (jtp 416) (jrv v) = true := by rw [tp416]; exact jft_a _ v
theorem tp417 : jtp 417 = (.array .int) := by decide +kernel
theorem wi417 {x : jCx} {ret : Option FieldType} {hh : List (Nat × Nat × Nat × Nat)} (hm : jMt x "<init>" ret hh) : jWr x "CodeLayout$Shape" 417 := jWr_i hm fun C T N h => by cases h; exact ⟨rfl, rfl⟩
theorem nr417 (v : Nat) : narrow (jtp 417) (jrv v) = jrv v := by rw [tp417]; exact jnr_a _ v
theorem fr417 (v : Nat) : fits (jtp 417) (jrv v) = true := by rw [tp417]; exact jft_a _ v
theorem tp418 : jtp 418 = .int := by decide +kernel
theorem wf418 {x : jCx} {own : String} : jWr x own 418 := jWr_n fun C T N h => by cases h; rfl
theorem ni418 (v : Int32) : narrow (jtp 418) (.int v) = .int v := by rw [tp418]; rfl
theorem fi418 (v : Int32) : fits (jtp 418) (.int v) = true := by rw [tp418]; rfl
theorem tp419 : jtp 419 = .int := by decide +kernel
theorem wf419 {x : jCx} {own : String} : jWr x own 419 := jWr_n fun C T N h => by cases h; rfl
theorem ni419 (v : Int32) : narrow (jtp 419) (.int v) = .int v := by rw [tp419]; rfl
theorem fi419 (v : Int32) : fits (jtp 419) (.int v) = true := by rw [tp419]; rfl
theorem tp420 : jtp 420 = (.array .long) := by decide +kernel
theorem wi420 {x : jCx} {ret : Option FieldType} {hh : List (Nat × Nat × Nat × Nat)} (hm : jMt x "<init>" ret hh) : jWr x "CodeLayout$Shape" 420 := jWr_i hm fun C T N h => by cases h; exact ⟨rfl, rfl⟩
theorem nr420 (v : Nat) : narrow (jtp 420) (jrv v) = jrv v := by rw [tp420]; exact jnr_a _ v
theorem fr420 (v : Nat) : fits (jtp 420) (jrv v) = true := by rw [tp420]; exact jft_a _ v
theorem tp421 : jtp 421 = (.array .boolean) := by decide +kernel
theorem wi421 {x : jCx} {ret : Option FieldType} {hh : List (Nat × Nat × Nat × Nat)} (hm : jMt x "<init>" ret hh) : jWr x "CodeLayout$Shape" 421 := jWr_i hm fun C T N h => by cases h; exact ⟨rfl, rfl⟩
theorem nr421 (v : Nat) : narrow (jtp 421) (jrv v) = jrv v := by rw [tp421]; exact jnr_a _ v
theorem fr421 (v : Nat) : fits (jtp 421) (jrv v) = true := by rw [tp421]; exact jft_a _ v
theorem tp500 : jtp 500 = (.array .byte) := by decide +kernel
theorem wi500 {x : jCx} {ret : Option FieldType} {hh : List (Nat × Nat × Nat × Nat)} (hm : jMt x "<init>" ret hh) : jWr x "CodeLayout$Held" 500 := jWr_i hm fun C T N h => by cases h; exact ⟨rfl, rfl⟩
theorem nr500 (v : Nat) : narrow (jtp 500) (jrv v) = jrv v := by rw [tp500]; exact jnr_a _ v
theorem fr500 (v : Nat) : fits (jtp 500) (jrv v) = true := by rw [tp500]; exact jft_a _ v
theorem tp501 : jtp 501 = .int := by decide +kernel
theorem wf501 {x : jCx} {own : String} : jWr x own 501 := jWr_n fun C T N h => by cases h; rfl
theorem ni501 (v : Int32) : narrow (jtp 501) (.int v) = .int v := by rw [tp501]; rfl
theorem fi501 (v : Int32) : fits (jtp 501) (.int v) = true := by rw [tp501]; rfl
theorem tp600 : jtp 600 = (.array .int) := by decide +kernel
theorem wf600 {x : jCx} {own : String} : jWr x own 600 := jWr_n fun C T N h => by cases h; rfl
theorem nr600 (v : Nat) : narrow (jtp 600) (jrv v) = jrv v := by rw [tp600]; exact jnr_a _ v
theorem fr600 (v : Nat) : fits (jtp 600) (jrv v) = true := by rw [tp600]; exact jft_a _ v
theorem tp601 : jtp 601 = .int := by decide +kernel
theorem wf601 {x : jCx} {own : String} : jWr x own 601 := jWr_n fun C T N h => by cases h; rfl
theorem ni601 (v : Int32) : narrow (jtp 601) (.int v) = .int v := by rw [tp601]; rfl
theorem fi601 (v : Int32) : fits (jtp 601) (.int v) = true := by rw [tp601]; rfl
theorem tp700 : jtp 700 = (.object "CodeLayout$Row") := by decide +kernel
theorem wi700 {x : jCx} {ret : Option FieldType} {hh : List (Nat × Nat × Nat × Nat)} (hm : jMt x "<init>" ret hh) : jWr x "CodeLayout$Counts" 700 := jWr_i hm fun C T N h => by cases h; exact ⟨rfl, rfl⟩
theorem nr700 (v : Nat) : narrow (jtp 700) (jrv v) = jrv v := by rw [tp700]; exact jnr_o _ v
theorem fr700 (v : Nat) : fits (jtp 700) (jrv v) = true := by rw [tp700]; exact jft_o _ v
theorem tp701 : jtp 701 = (.object "CodeLayout$Row") := by decide +kernel
theorem wi701 {x : jCx} {ret : Option FieldType} {hh : List (Nat × Nat × Nat × Nat)} (hm : jMt x "<init>" ret hh) : jWr x "CodeLayout$Counts" 701 := jWr_i hm fun C T N h => by cases h; exact ⟨rfl, rfl⟩
theorem nr701 (v : Nat) : narrow (jtp 701) (jrv v) = jrv v := by rw [tp701]; exact jnr_o _ v
theorem fr701 (v : Nat) : fits (jtp 701) (jrv v) = true := by rw [tp701]; exact jft_o _ v
theorem tp702 : jtp 702 = (.array .long) := by decide +kernel
theorem wf702 {x : jCx} {own : String} : jWr x own 702 := jWr_n fun C T N h => by cases h; rfl
theorem nr702 (v : Nat) : narrow (jtp 702) (jrv v) = jrv v := by rw [tp702]; exact jnr_a _ v
theorem fr702 (v : Nat) : fits (jtp 702) (jrv v) = true := by rw [tp702]; exact jft_a _ v
theorem tp703 : jtp 703 = (.array .int) := by decide +kernel
theorem wi703 {x : jCx} {ret : Option FieldType} {hh : List (Nat × Nat × Nat × Nat)} (hm : jMt x "<init>" ret hh) : jWr x "CodeLayout$Counts" 703 := jWr_i hm fun C T N h => by cases h; exact ⟨rfl, rfl⟩
theorem nr703 (v : Nat) : narrow (jtp 703) (jrv v) = jrv v := by rw [tp703]; exact jnr_a _ v
theorem fr703 (v : Nat) : fits (jtp 703) (jrv v) = true := by rw [tp703]; exact jft_a _ v
theorem tp800 : jtp 800 = (.object "CodeLayout$Program") := by decide +kernel
theorem wf800 {x : jCx} {own : String} : jWr x own 800 := jWr_n fun C T N h => by cases h; rfl
theorem nr800 (v : Nat) : narrow (jtp 800) (jrv v) = jrv v := by rw [tp800]; exact jnr_o _ v
theorem fr800 (v : Nat) : fits (jtp 800) (jrv v) = true := by rw [tp800]; exact jft_o _ v
theorem tp801 : jtp 801 = (.object "CodeLayout$Counts") := by decide +kernel
theorem wf801 {x : jCx} {own : String} : jWr x own 801 := jWr_n fun C T N h => by cases h; rfl
theorem nr801 (v : Nat) : narrow (jtp 801) (jrv v) = jrv v := by rw [tp801]; exact jnr_o _ v
theorem fr801 (v : Nat) : fits (jtp 801) (jrv v) = true := by rw [tp801]; exact jft_o _ v
theorem tp802 : jtp 802 = (.object "CodeLayout$Counts") := by decide +kernel
theorem wf802 {x : jCx} {own : String} : jWr x own 802 := jWr_n fun C T N h => by cases h; rfl
theorem nr802 (v : Nat) : narrow (jtp 802) (jrv v) = jrv v := by rw [tp802]; exact jnr_o _ v
theorem fr802 (v : Nat) : fits (jtp 802) (jrv v) = true := by rw [tp802]; exact jft_o _ v
theorem tp803 : jtp 803 = (.array .long) := by decide +kernel
theorem wf803 {x : jCx} {own : String} : jWr x own 803 := jWr_n fun C T N h => by cases h; rfl
theorem nr803 (v : Nat) : narrow (jtp 803) (jrv v) = jrv v := by rw [tp803]; exact jnr_a _ v
theorem fr803 (v : Nat) : fits (jtp 803) (jrv v) = true := by rw [tp803]; exact jft_a _ v
theorem tp804 : jtp 804 = (.array .int) := by decide +kernel
theorem wf804 {x : jCx} {own : String} : jWr x own 804 := jWr_n fun C T N h => by cases h; rfl
theorem nr804 (v : Nat) : narrow (jtp 804) (jrv v) = jrv v := by rw [tp804]; exact jnr_a _ v
theorem fr804 (v : Nat) : fits (jtp 804) (jrv v) = true := by rw [tp804]; exact jft_a _ v
theorem tp805 : jtp 805 = .int := by decide +kernel
theorem wf805 {x : jCx} {own : String} : jWr x own 805 := jWr_n fun C T N h => by cases h; rfl
theorem ni805 (v : Int32) : narrow (jtp 805) (.int v) = .int v := by rw [tp805]; rfl
theorem fi805 (v : Int32) : fits (jtp 805) (.int v) = true := by rw [tp805]; rfl
theorem tp806 : jtp 806 = (.array .boolean) := by decide +kernel
theorem wf806 {x : jCx} {own : String} : jWr x own 806 := jWr_n fun C T N h => by cases h; rfl
theorem nr806 (v : Nat) : narrow (jtp 806) (jrv v) = jrv v := by rw [tp806]; exact jnr_a _ v
theorem fr806 (v : Nat) : fits (jtp 806) (jrv v) = true := by rw [tp806]; exact jft_a _ v
theorem tp807 : jtp 807 = (.object "CodeLayout$Row") := by decide +kernel
theorem wi807 {x : jCx} {ret : Option FieldType} {hh : List (Nat × Nat × Nat × Nat)} (hm : jMt x "<init>" ret hh) : jWr x "CodeLayout$Ordering" 807 := jWr_i hm fun C T N h => by cases h; exact ⟨rfl, rfl⟩
theorem nr807 (v : Nat) : narrow (jtp 807) (jrv v) = jrv v := by rw [tp807]; exact jnr_o _ v
theorem fr807 (v : Nat) : fits (jtp 807) (jrv v) = true := by rw [tp807]; exact jft_o _ v
theorem tp808 : jtp 808 = (.array .int) := by decide +kernel
theorem wf808 {x : jCx} {own : String} : jWr x own 808 := jWr_n fun C T N h => by cases h; rfl
theorem nr808 (v : Nat) : narrow (jtp 808) (jrv v) = jrv v := by rw [tp808]; exact jnr_a _ v
theorem fr808 (v : Nat) : fits (jtp 808) (jrv v) = true := by rw [tp808]; exact jft_a _ v
theorem tp809 : jtp 809 = (.array .int) := by decide +kernel
theorem wf809 {x : jCx} {own : String} : jWr x own 809 := jWr_n fun C T N h => by cases h; rfl
theorem nr809 (v : Nat) : narrow (jtp 809) (jrv v) = jrv v := by rw [tp809]; exact jnr_a _ v
theorem fr809 (v : Nat) : fits (jtp 809) (jrv v) = true := by rw [tp809]; exact jft_a _ v
theorem tp810 : jtp 810 = (.array .int) := by decide +kernel
theorem wf810 {x : jCx} {own : String} : jWr x own 810 := jWr_n fun C T N h => by cases h; rfl
theorem nr810 (v : Nat) : narrow (jtp 810) (jrv v) = jrv v := by rw [tp810]; exact jnr_a _ v
theorem fr810 (v : Nat) : fits (jtp 810) (jrv v) = true := by rw [tp810]; exact jft_a _ v
theorem tp811 : jtp 811 = (.array .boolean) := by decide +kernel
theorem wf811 {x : jCx} {own : String} : jWr x own 811 := jWr_n fun C T N h => by cases h; rfl
theorem nr811 (v : Nat) : narrow (jtp 811) (jrv v) = jrv v := by rw [tp811]; exact jnr_a _ v
theorem fr811 (v : Nat) : fits (jtp 811) (jrv v) = true := by rw [tp811]; exact jft_a _ v
theorem tp812 : jtp 812 = (.array .long) := by decide +kernel
theorem wf812 {x : jCx} {own : String} : jWr x own 812 := jWr_n fun C T N h => by cases h; rfl
theorem nr812 (v : Nat) : narrow (jtp 812) (jrv v) = jrv v := by rw [tp812]; exact jnr_a _ v
theorem fr812 (v : Nat) : fits (jtp 812) (jrv v) = true := by rw [tp812]; exact jft_a _ v
theorem tp813 : jtp 813 = (.object "CodeLayout$Row") := by decide +kernel
theorem wi813 {x : jCx} {ret : Option FieldType} {hh : List (Nat × Nat × Nat × Nat)} (hm : jMt x "<init>" ret hh) : jWr x "CodeLayout$Ordering" 813 := jWr_i hm fun C T N h => by cases h; exact ⟨rfl, rfl⟩
theorem nr813 (v : Nat) : narrow (jtp 813) (jrv v) = jrv v := by rw [tp813]; exact jnr_o _ v
theorem fr813 (v : Nat) : fits (jtp 813) (jrv v) = true := by rw [tp813]; exact jft_o _ v
theorem tp814 : jtp 814 = (.array .int) := by decide +kernel
theorem wf814 {x : jCx} {own : String} : jWr x own 814 := jWr_n fun C T N h => by cases h; rfl
theorem nr814 (v : Nat) : narrow (jtp 814) (jrv v) = jrv v := by rw [tp814]; exact jnr_a _ v
theorem fr814 (v : Nat) : fits (jtp 814) (jrv v) = true := by rw [tp814]; exact jft_a _ v
theorem tp815 : jtp 815 = (.array .int) := by decide +kernel
theorem wf815 {x : jCx} {own : String} : jWr x own 815 := jWr_n fun C T N h => by cases h; rfl
theorem nr815 (v : Nat) : narrow (jtp 815) (jrv v) = jrv v := by rw [tp815]; exact jnr_a _ v
theorem fr815 (v : Nat) : fits (jtp 815) (jrv v) = true := by rw [tp815]; exact jft_a _ v
theorem tp816 : jtp 816 = (.array .int) := by decide +kernel
theorem wf816 {x : jCx} {own : String} : jWr x own 816 := jWr_n fun C T N h => by cases h; rfl
theorem nr816 (v : Nat) : narrow (jtp 816) (jrv v) = jrv v := by rw [tp816]; exact jnr_a _ v
theorem fr816 (v : Nat) : fits (jtp 816) (jrv v) = true := by rw [tp816]; exact jft_a _ v
theorem tp817 : jtp 817 = (.array .long) := by decide +kernel
theorem wf817 {x : jCx} {own : String} : jWr x own 817 := jWr_n fun C T N h => by cases h; rfl
theorem nr817 (v : Nat) : narrow (jtp 817) (jrv v) = jrv v := by rw [tp817]; exact jnr_a _ v
theorem fr817 (v : Nat) : fits (jtp 817) (jrv v) = true := by rw [tp817]; exact jft_a _ v
theorem tp818 : jtp 818 = (.array .long) := by decide +kernel
theorem wf818 {x : jCx} {own : String} : jWr x own 818 := jWr_n fun C T N h => by cases h; rfl
theorem nr818 (v : Nat) : narrow (jtp 818) (jrv v) = jrv v := by rw [tp818]; exact jnr_a _ v
theorem fr818 (v : Nat) : fits (jtp 818) (jrv v) = true := by rw [tp818]; exact jft_a _ v
theorem tp819 : jtp 819 = (.array .long) := by decide +kernel
theorem wf819 {x : jCx} {own : String} : jWr x own 819 := jWr_n fun C T N h => by cases h; rfl
theorem nr819 (v : Nat) : narrow (jtp 819) (jrv v) = jrv v := by rw [tp819]; exact jnr_a _ v
theorem fr819 (v : Nat) : fits (jtp 819) (jrv v) = true := by rw [tp819]; exact jft_a _ v
theorem tp820 : jtp 820 = (.array .int) := by decide +kernel
theorem wf820 {x : jCx} {own : String} : jWr x own 820 := jWr_n fun C T N h => by cases h; rfl
theorem nr820 (v : Nat) : narrow (jtp 820) (jrv v) = jrv v := by rw [tp820]; exact jnr_a _ v
theorem fr820 (v : Nat) : fits (jtp 820) (jrv v) = true := by rw [tp820]; exact jft_a _ v
theorem tp821 : jtp 821 = (.array .int) := by decide +kernel
theorem wf821 {x : jCx} {own : String} : jWr x own 821 := jWr_n fun C T N h => by cases h; rfl
theorem nr821 (v : Nat) : narrow (jtp 821) (jrv v) = jrv v := by rw [tp821]; exact jnr_a _ v
theorem fr821 (v : Nat) : fits (jtp 821) (jrv v) = true := by rw [tp821]; exact jft_a _ v
theorem tp822 : jtp 822 = (.array .int) := by decide +kernel
theorem wf822 {x : jCx} {own : String} : jWr x own 822 := jWr_n fun C T N h => by cases h; rfl
theorem nr822 (v : Nat) : narrow (jtp 822) (jrv v) = jrv v := by rw [tp822]; exact jnr_a _ v
theorem fr822 (v : Nat) : fits (jtp 822) (jrv v) = true := by rw [tp822]; exact jft_a _ v
theorem tp823 : jtp 823 = (.array .long) := by decide +kernel
theorem wf823 {x : jCx} {own : String} : jWr x own 823 := jWr_n fun C T N h => by cases h; rfl
theorem nr823 (v : Nat) : narrow (jtp 823) (jrv v) = jrv v := by rw [tp823]; exact jnr_a _ v
theorem fr823 (v : Nat) : fits (jtp 823) (jrv v) = true := by rw [tp823]; exact jft_a _ v
theorem tp824 : jtp 824 = (.array .long) := by decide +kernel
theorem wf824 {x : jCx} {own : String} : jWr x own 824 := jWr_n fun C T N h => by cases h; rfl
theorem nr824 (v : Nat) : narrow (jtp 824) (jrv v) = jrv v := by rw [tp824]; exact jnr_a _ v
theorem fr824 (v : Nat) : fits (jtp 824) (jrv v) = true := by rw [tp824]; exact jft_a _ v
theorem tp825 : jtp 825 = (.array .long) := by decide +kernel
theorem wf825 {x : jCx} {own : String} : jWr x own 825 := jWr_n fun C T N h => by cases h; rfl
theorem nr825 (v : Nat) : narrow (jtp 825) (jrv v) = jrv v := by rw [tp825]; exact jnr_a _ v
theorem fr825 (v : Nat) : fits (jtp 825) (jrv v) = true := by rw [tp825]; exact jft_a _ v
theorem tp826 : jtp 826 = (.array .long) := by decide +kernel
theorem wf826 {x : jCx} {own : String} : jWr x own 826 := jWr_n fun C T N h => by cases h; rfl
theorem nr826 (v : Nat) : narrow (jtp 826) (jrv v) = jrv v := by rw [tp826]; exact jnr_a _ v
theorem fr826 (v : Nat) : fits (jtp 826) (jrv v) = true := by rw [tp826]; exact jft_a _ v
theorem tp827 : jtp 827 = (.array .long) := by decide +kernel
theorem wf827 {x : jCx} {own : String} : jWr x own 827 := jWr_n fun C T N h => by cases h; rfl
theorem nr827 (v : Nat) : narrow (jtp 827) (jrv v) = jrv v := by rw [tp827]; exact jnr_a _ v
theorem fr827 (v : Nat) : fits (jtp 827) (jrv v) = true := by rw [tp827]; exact jft_a _ v
theorem tp828 : jtp 828 = (.object "CodeLayout$Row") := by decide +kernel
theorem wi828 {x : jCx} {ret : Option FieldType} {hh : List (Nat × Nat × Nat × Nat)} (hm : jMt x "<init>" ret hh) : jWr x "CodeLayout$Ordering" 828 := jWr_i hm fun C T N h => by cases h; exact ⟨rfl, rfl⟩
theorem nr828 (v : Nat) : narrow (jtp 828) (jrv v) = jrv v := by rw [tp828]; exact jnr_o _ v
theorem fr828 (v : Nat) : fits (jtp 828) (jrv v) = true := by rw [tp828]; exact jft_o _ v
theorem tp900 : jtp 900 = (.object "CodeLayout$Program") := by decide +kernel
theorem wi900 {x : jCx} {ret : Option FieldType} {hh : List (Nat × Nat × Nat × Nat)} (hm : jMt x "<init>" ret hh) : jWr x "CodeLayout$Writing" 900 := jWr_i hm fun C T N h => by cases h; exact ⟨rfl, rfl⟩
theorem nr900 (v : Nat) : narrow (jtp 900) (jrv v) = jrv v := by rw [tp900]; exact jnr_o _ v
theorem fr900 (v : Nat) : fits (jtp 900) (jrv v) = true := by rw [tp900]; exact jft_o _ v
theorem tp901 : jtp 901 = (.array .int) := by decide +kernel
theorem wf901 {x : jCx} {own : String} : jWr x own 901 := jWr_n fun C T N h => by cases h; rfl
theorem nr901 (v : Nat) : narrow (jtp 901) (jrv v) = jrv v := by rw [tp901]; exact jnr_a _ v
theorem fr901 (v : Nat) : fits (jtp 901) (jrv v) = true := by rw [tp901]; exact jft_a _ v
theorem tp902 : jtp 902 = .int := by decide +kernel
theorem wf902 {x : jCx} {own : String} : jWr x own 902 := jWr_n fun C T N h => by cases h; rfl
theorem ni902 (v : Int32) : narrow (jtp 902) (.int v) = .int v := by rw [tp902]; rfl
theorem fi902 (v : Int32) : fits (jtp 902) (.int v) = true := by rw [tp902]; rfl
theorem tp903 : jtp 903 = .int := by decide +kernel
theorem wf903 {x : jCx} {own : String} : jWr x own 903 := jWr_n fun C T N h => by cases h; rfl
theorem ni903 (v : Int32) : narrow (jtp 903) (.int v) = .int v := by rw [tp903]; rfl
theorem fi903 (v : Int32) : fits (jtp 903) (.int v) = true := by rw [tp903]; rfl
theorem tp904 : jtp 904 = .int := by decide +kernel
theorem wf904 {x : jCx} {own : String} : jWr x own 904 := jWr_n fun C T N h => by cases h; rfl
theorem ni904 (v : Int32) : narrow (jtp 904) (.int v) = .int v := by rw [tp904]; rfl
theorem fi904 (v : Int32) : fits (jtp 904) (.int v) = true := by rw [tp904]; rfl
theorem tp905 : jtp 905 = (.array .int) := by decide +kernel
theorem wf905 {x : jCx} {own : String} : jWr x own 905 := jWr_n fun C T N h => by cases h; rfl
theorem nr905 (v : Nat) : narrow (jtp 905) (jrv v) = jrv v := by rw [tp905]; exact jnr_a _ v
theorem fr905 (v : Nat) : fits (jtp 905) (jrv v) = true := by rw [tp905]; exact jft_a _ v
theorem tp906 : jtp 906 = (.array .int) := by decide +kernel
theorem wf906 {x : jCx} {own : String} : jWr x own 906 := jWr_n fun C T N h => by cases h; rfl
theorem nr906 (v : Nat) : narrow (jtp 906) (jrv v) = jrv v := by rw [tp906]; exact jnr_a _ v
theorem fr906 (v : Nat) : fits (jtp 906) (jrv v) = true := by rw [tp906]; exact jft_a _ v
theorem tp907 : jtp 907 = (.array .boolean) := by decide +kernel
theorem wf907 {x : jCx} {own : String} : jWr x own 907 := jWr_n fun C T N h => by cases h; rfl
theorem nr907 (v : Nat) : narrow (jtp 907) (jrv v) = jrv v := by rw [tp907]; exact jnr_a _ v
theorem fr907 (v : Nat) : fits (jtp 907) (jrv v) = true := by rw [tp907]; exact jft_a _ v
theorem tp908 : jtp 908 = (.array .int) := by decide +kernel
theorem wf908 {x : jCx} {own : String} : jWr x own 908 := jWr_n fun C T N h => by cases h; rfl
theorem nr908 (v : Nat) : narrow (jtp 908) (jrv v) = jrv v := by rw [tp908]; exact jnr_a _ v
theorem fr908 (v : Nat) : fits (jtp 908) (jrv v) = true := by rw [tp908]; exact jft_a _ v
theorem tp909 : jtp 909 = .int := by decide +kernel
theorem wf909 {x : jCx} {own : String} : jWr x own 909 := jWr_n fun C T N h => by cases h; rfl
theorem ni909 (v : Int32) : narrow (jtp 909) (.int v) = .int v := by rw [tp909]; rfl
theorem fi909 (v : Int32) : fits (jtp 909) (.int v) = true := by rw [tp909]; rfl
theorem tp910 : jtp 910 = .int := by decide +kernel
theorem wf910 {x : jCx} {own : String} : jWr x own 910 := jWr_n fun C T N h => by cases h; rfl
theorem ni910 (v : Int32) : narrow (jtp 910) (.int v) = .int v := by rw [tp910]; rfl
theorem fi910 (v : Int32) : fits (jtp 910) (.int v) = true := by rw [tp910]; rfl
theorem tp911 : jtp 911 = .int := by decide +kernel
theorem wf911 {x : jCx} {own : String} : jWr x own 911 := jWr_n fun C T N h => by cases h; rfl
theorem ni911 (v : Int32) : narrow (jtp 911) (.int v) = .int v := by rw [tp911]; rfl
theorem fi911 (v : Int32) : fits (jtp 911) (.int v) = true := by rw [tp911]; rfl
theorem tp912 : jtp 912 = .int := by decide +kernel
theorem wf912 {x : jCx} {own : String} : jWr x own 912 := jWr_n fun C T N h => by cases h; rfl
theorem ni912 (v : Int32) : narrow (jtp 912) (.int v) = .int v := by rw [tp912]; rfl
theorem fi912 (v : Int32) : fits (jtp 912) (.int v) = true := by rw [tp912]; rfl
theorem tp913 : jtp 913 = (.array .byte) := by decide +kernel
theorem wi913 {x : jCx} {ret : Option FieldType} {hh : List (Nat × Nat × Nat × Nat)} (hm : jMt x "<init>" ret hh) : jWr x "CodeLayout$Writing" 913 := jWr_i hm fun C T N h => by cases h; exact ⟨rfl, rfl⟩
theorem nr913 (v : Nat) : narrow (jtp 913) (jrv v) = jrv v := by rw [tp913]; exact jnr_a _ v
theorem fr913 (v : Nat) : fits (jtp 913) (jrv v) = true := by rw [tp913]; exact jft_a _ v
theorem tp914 : jtp 914 = .int := by decide +kernel
theorem wf914 {x : jCx} {own : String} : jWr x own 914 := jWr_n fun C T N h => by cases h; rfl
theorem ni914 (v : Int32) : narrow (jtp 914) (.int v) = .int v := by rw [tp914]; rfl
theorem fi914 (v : Int32) : fits (jtp 914) (.int v) = true := by rw [tp914]; rfl
theorem tp915 : jtp 915 = .int := by decide +kernel
theorem wf915 {x : jCx} {own : String} : jWr x own 915 := jWr_n fun C T N h => by cases h; rfl
theorem ni915 (v : Int32) : narrow (jtp 915) (.int v) = .int v := by rw [tp915]; rfl
theorem fi915 (v : Int32) : fits (jtp 915) (.int v) = true := by rw [tp915]; rfl
theorem tp916 : jtp 916 = .int := by decide +kernel
theorem wf916 {x : jCx} {own : String} : jWr x own 916 := jWr_n fun C T N h => by cases h; rfl
theorem ni916 (v : Int32) : narrow (jtp 916) (.int v) = .int v := by rw [tp916]; rfl
theorem fi916 (v : Int32) : fits (jtp 916) (.int v) = true := by rw [tp916]; rfl
theorem tp917 : jtp 917 = .int := by decide +kernel
theorem wf917 {x : jCx} {own : String} : jWr x own 917 := jWr_n fun C T N h => by cases h; rfl
theorem ni917 (v : Int32) : narrow (jtp 917) (.int v) = .int v := by rw [tp917]; rfl
theorem fi917 (v : Int32) : fits (jtp 917) (.int v) = true := by rw [tp917]; rfl
theorem tp918 : jtp 918 = .int := by decide +kernel
theorem wf918 {x : jCx} {own : String} : jWr x own 918 := jWr_n fun C T N h => by cases h; rfl
theorem ni918 (v : Int32) : narrow (jtp 918) (.int v) = .int v := by rw [tp918]; rfl
theorem fi918 (v : Int32) : fits (jtp 918) (.int v) = true := by rw [tp918]; rfl
theorem tp919 : jtp 919 = .int := by decide +kernel
theorem wf919 {x : jCx} {own : String} : jWr x own 919 := jWr_n fun C T N h => by cases h; rfl
theorem ni919 (v : Int32) : narrow (jtp 919) (.int v) = .int v := by rw [tp919]; rfl
theorem fi919 (v : Int32) : fits (jtp 919) (.int v) = true := by rw [tp919]; rfl
theorem tp920 : jtp 920 = .int := by decide +kernel
theorem wf920 {x : jCx} {own : String} : jWr x own 920 := jWr_n fun C T N h => by cases h; rfl
theorem ni920 (v : Int32) : narrow (jtp 920) (.int v) = .int v := by rw [tp920]; rfl
theorem fi920 (v : Int32) : fits (jtp 920) (.int v) = true := by rw [tp920]; rfl
theorem tp1000 : jtp 1000 = .int := by decide +kernel
theorem wi1000 {x : jCx} {ret : Option FieldType} {hh : List (Nat × Nat × Nat × Nat)} (hm : jMt x "<init>" ret hh) : jWr x "CodeLayout$Machine" 1000 := jWr_i hm fun C T N h => by cases h; exact ⟨rfl, rfl⟩
theorem ni1000 (v : Int32) : narrow (jtp 1000) (.int v) = .int v := by rw [tp1000]; rfl
theorem fi1000 (v : Int32) : fits (jtp 1000) (.int v) = true := by rw [tp1000]; rfl
theorem tp1001 : jtp 1001 = (.object "CodeLayout$Program") := by decide +kernel
theorem wi1001 {x : jCx} {ret : Option FieldType} {hh : List (Nat × Nat × Nat × Nat)} (hm : jMt x "<init>" ret hh) : jWr x "CodeLayout$Machine" 1001 := jWr_i hm fun C T N h => by cases h; exact ⟨rfl, rfl⟩
theorem nr1001 (v : Nat) : narrow (jtp 1001) (jrv v) = jrv v := by rw [tp1001]; exact jnr_o _ v
theorem fr1001 (v : Nat) : fits (jtp 1001) (jrv v) = true := by rw [tp1001]; exact jft_o _ v
theorem tp1002 : jtp 1002 = (.object "CodeLayout$Writing") := by decide +kernel
theorem wi1002 {x : jCx} {ret : Option FieldType} {hh : List (Nat × Nat × Nat × Nat)} (hm : jMt x "<init>" ret hh) : jWr x "CodeLayout$Machine" 1002 := jWr_i hm fun C T N h => by cases h; exact ⟨rfl, rfl⟩
theorem nr1002 (v : Nat) : narrow (jtp 1002) (jrv v) = jrv v := by rw [tp1002]; exact jnr_o _ v
theorem fr1002 (v : Nat) : fits (jtp 1002) (jrv v) = true := by rw [tp1002]; exact jft_o _ v
theorem tp1003 : jtp 1003 = (.object "CodeLayout$Ordering") := by decide +kernel
theorem wi1003 {x : jCx} {ret : Option FieldType} {hh : List (Nat × Nat × Nat × Nat)} (hm : jMt x "<init>" ret hh) : jWr x "CodeLayout$Machine" 1003 := jWr_i hm fun C T N h => by cases h; exact ⟨rfl, rfl⟩
theorem nr1003 (v : Nat) : narrow (jtp 1003) (jrv v) = jrv v := by rw [tp1003]; exact jnr_o _ v
theorem fr1003 (v : Nat) : fits (jtp 1003) (jrv v) = true := by rw [tp1003]; exact jft_o _ v
theorem tp1004 : jtp 1004 = (.object "CodeLayout$Halt") := by decide +kernel
theorem wi1004 {x : jCx} {ret : Option FieldType} {hh : List (Nat × Nat × Nat × Nat)} (hm : jMt x "<init>" ret hh) : jWr x "CodeLayout$Machine" 1004 := jWr_i hm fun C T N h => by cases h; exact ⟨rfl, rfl⟩
theorem nr1004 (v : Nat) : narrow (jtp 1004) (jrv v) = jrv v := by rw [tp1004]; exact jnr_o _ v
theorem fr1004 (v : Nat) : fits (jtp 1004) (jrv v) = true := by rw [tp1004]; exact jft_o _ v
theorem tp1005 : jtp 1005 = (.object "CodeLayout$Memory") := by decide +kernel
theorem wi1005 {x : jCx} {ret : Option FieldType} {hh : List (Nat × Nat × Nat × Nat)} (hm : jMt x "<init>" ret hh) : jWr x "CodeLayout$Machine" 1005 := jWr_i hm fun C T N h => by cases h; exact ⟨rfl, rfl⟩
theorem nr1005 (v : Nat) : narrow (jtp 1005) (jrv v) = jrv v := by rw [tp1005]; exact jnr_o _ v
theorem fr1005 (v : Nat) : fits (jtp 1005) (jrv v) = true := by rw [tp1005]; exact jft_o _ v
theorem tp1006 : jtp 1006 = .boolean := by decide +kernel
theorem wf1006 {x : jCx} {own : String} : jWr x own 1006 := jWr_n fun C T N h => by cases h; rfl
theorem nz1006 {v : Int32} (h : i2z v = v) : narrow (jtp 1006) (.int v) = .int v := by rw [tp1006]; exact jzn h
theorem fz1006 {v : Int32} (h : i2z v = v) : fits (jtp 1006) (.int v) = true := by rw [tp1006]; exact jzf h
theorem tp1007 : jtp 1007 = (.array .long) := by decide +kernel
theorem wi1007 {x : jCx} {ret : Option FieldType} {hh : List (Nat × Nat × Nat × Nat)} (hm : jMt x "<init>" ret hh) : jWr x "CodeLayout$Machine" 1007 := jWr_i hm fun C T N h => by cases h; exact ⟨rfl, rfl⟩
theorem nr1007 (v : Nat) : narrow (jtp 1007) (jrv v) = jrv v := by rw [tp1007]; exact jnr_a _ v
theorem fr1007 (v : Nat) : fits (jtp 1007) (jrv v) = true := by rw [tp1007]; exact jft_a _ v
theorem tp1008 : jtp 1008 = (.array .int) := by decide +kernel
theorem wi1008 {x : jCx} {ret : Option FieldType} {hh : List (Nat × Nat × Nat × Nat)} (hm : jMt x "<init>" ret hh) : jWr x "CodeLayout$Machine" 1008 := jWr_i hm fun C T N h => by cases h; exact ⟨rfl, rfl⟩
theorem nr1008 (v : Nat) : narrow (jtp 1008) (jrv v) = jrv v := by rw [tp1008]; exact jnr_a _ v
theorem fr1008 (v : Nat) : fits (jtp 1008) (jrv v) = true := by rw [tp1008]; exact jft_a _ v
theorem tp1009 : jtp 1009 = (.array .int) := by decide +kernel
theorem wi1009 {x : jCx} {ret : Option FieldType} {hh : List (Nat × Nat × Nat × Nat)} (hm : jMt x "<init>" ret hh) : jWr x "CodeLayout$Machine" 1009 := jWr_i hm fun C T N h => by cases h; exact ⟨rfl, rfl⟩
theorem nr1009 (v : Nat) : narrow (jtp 1009) (jrv v) = jrv v := by rw [tp1009]; exact jnr_a _ v
theorem fr1009 (v : Nat) : fits (jtp 1009) (jrv v) = true := by rw [tp1009]; exact jft_a _ v
theorem tp1010 : jtp 1010 = .boolean := by decide +kernel
theorem wf1010 {x : jCx} {own : String} : jWr x own 1010 := jWr_n fun C T N h => by cases h; rfl
theorem nz1010 {v : Int32} (h : i2z v = v) : narrow (jtp 1010) (.int v) = .int v := by rw [tp1010]; exact jzn h
theorem fz1010 {v : Int32} (h : i2z v = v) : fits (jtp 1010) (.int v) = true := by rw [tp1010]; exact jzf h
theorem tp1011 : jtp 1011 = .boolean := by decide +kernel
theorem wf1011 {x : jCx} {own : String} : jWr x own 1011 := jWr_n fun C T N h => by cases h; rfl
theorem nz1011 {v : Int32} (h : i2z v = v) : narrow (jtp 1011) (.int v) = .int v := by rw [tp1011]; exact jzn h
theorem fz1011 {v : Int32} (h : i2z v = v) : fits (jtp 1011) (.int v) = true := by rw [tp1011]; exact jzf h
theorem tp1012 : jtp 1012 = .boolean := by decide +kernel
theorem wf1012 {x : jCx} {own : String} : jWr x own 1012 := jWr_n fun C T N h => by cases h; rfl
theorem nz1012 {v : Int32} (h : i2z v = v) : narrow (jtp 1012) (.int v) = .int v := by rw [tp1012]; exact jzn h
theorem fz1012 {v : Int32} (h : i2z v = v) : fits (jtp 1012) (.int v) = true := by rw [tp1012]; exact jzf h
theorem tp1013 : jtp 1013 = .boolean := by decide +kernel
theorem wf1013 {x : jCx} {own : String} : jWr x own 1013 := jWr_n fun C T N h => by cases h; rfl
theorem nz1013 {v : Int32} (h : i2z v = v) : narrow (jtp 1013) (.int v) = .int v := by rw [tp1013]; exact jzn h
theorem fz1013 {v : Int32} (h : i2z v = v) : fits (jtp 1013) (.int v) = true := by rw [tp1013]; exact jzf h
theorem tp1014 : jtp 1014 = .long := by decide +kernel
theorem wf1014 {x : jCx} {own : String} : jWr x own 1014 := jWr_n fun C T N h => by cases h; rfl
theorem nl1014 (v : Int64) : narrow (jtp 1014) (.long v) = .long v := by rw [tp1014]; rfl
theorem ff1014 (v : Int64) : fits (jtp 1014) (.long v) = true := by rw [tp1014]; rfl
theorem tp1015 : jtp 1015 = .int := by decide +kernel
theorem wf1015 {x : jCx} {own : String} : jWr x own 1015 := jWr_n fun C T N h => by cases h; rfl
theorem ni1015 (v : Int32) : narrow (jtp 1015) (.int v) = .int v := by rw [tp1015]; rfl
theorem fi1015 (v : Int32) : fits (jtp 1015) (.int v) = true := by rw [tp1015]; rfl
theorem tp1016 : jtp 1016 = .int := by decide +kernel
theorem wf1016 {x : jCx} {own : String} : jWr x own 1016 := jWr_n fun C T N h => by cases h; rfl
theorem ni1016 (v : Int32) : narrow (jtp 1016) (.int v) = .int v := by rw [tp1016]; rfl
theorem fi1016 (v : Int32) : fits (jtp 1016) (.int v) = true := by rw [tp1016]; rfl
theorem tp1017 : jtp 1017 = .int := by decide +kernel
theorem wf1017 {x : jCx} {own : String} : jWr x own 1017 := jWr_n fun C T N h => by cases h; rfl
theorem ni1017 (v : Int32) : narrow (jtp 1017) (.int v) = .int v := by rw [tp1017]; rfl
theorem fi1017 (v : Int32) : fits (jtp 1017) (.int v) = true := by rw [tp1017]; rfl
theorem tp1018 : jtp 1018 = .int := by decide +kernel
theorem wf1018 {x : jCx} {own : String} : jWr x own 1018 := jWr_n fun C T N h => by cases h; rfl
theorem ni1018 (v : Int32) : narrow (jtp 1018) (.int v) = .int v := by rw [tp1018]; rfl
theorem fi1018 (v : Int32) : fits (jtp 1018) (.int v) = true := by rw [tp1018]; rfl
theorem tp1019 : jtp 1019 = .int := by decide +kernel
theorem wf1019 {x : jCx} {own : String} : jWr x own 1019 := jWr_n fun C T N h => by cases h; rfl
theorem ni1019 (v : Int32) : narrow (jtp 1019) (.int v) = .int v := by rw [tp1019]; rfl
theorem fi1019 (v : Int32) : fits (jtp 1019) (.int v) = true := by rw [tp1019]; rfl
theorem tp1020 : jtp 1020 = (.array .int) := by decide +kernel
theorem wi1020 {x : jCx} {ret : Option FieldType} {hh : List (Nat × Nat × Nat × Nat)} (hm : jMt x "<init>" ret hh) : jWr x "CodeLayout$Machine" 1020 := jWr_i hm fun C T N h => by cases h; exact ⟨rfl, rfl⟩
theorem nr1020 (v : Nat) : narrow (jtp 1020) (jrv v) = jrv v := by rw [tp1020]; exact jnr_a _ v
theorem fr1020 (v : Nat) : fits (jtp 1020) (jrv v) = true := by rw [tp1020]; exact jft_a _ v
theorem tp1021 : jtp 1021 = (.array .long) := by decide +kernel
theorem wi1021 {x : jCx} {ret : Option FieldType} {hh : List (Nat × Nat × Nat × Nat)} (hm : jMt x "<init>" ret hh) : jWr x "CodeLayout$Machine" 1021 := jWr_i hm fun C T N h => by cases h; exact ⟨rfl, rfl⟩
theorem nr1021 (v : Nat) : narrow (jtp 1021) (jrv v) = jrv v := by rw [tp1021]; exact jnr_a _ v
theorem fr1021 (v : Nat) : fits (jtp 1021) (jrv v) = true := by rw [tp1021]; exact jft_a _ v
theorem tp1022 : jtp 1022 = (.array .byte) := by decide +kernel
theorem wi1022 {x : jCx} {ret : Option FieldType} {hh : List (Nat × Nat × Nat × Nat)} (hm : jMt x "<init>" ret hh) : jWr x "CodeLayout$Machine" 1022 := jWr_i hm fun C T N h => by cases h; exact ⟨rfl, rfl⟩
theorem nr1022 (v : Nat) : narrow (jtp 1022) (jrv v) = jrv v := by rw [tp1022]; exact jnr_a _ v
theorem fr1022 (v : Nat) : fits (jtp 1022) (jrv v) = true := by rw [tp1022]; exact jft_a _ v
theorem tp1023 : jtp 1023 = .boolean := by decide +kernel
theorem wf1023 {x : jCx} {own : String} : jWr x own 1023 := jWr_n fun C T N h => by cases h; rfl
theorem nz1023 {v : Int32} (h : i2z v = v) : narrow (jtp 1023) (.int v) = .int v := by rw [tp1023]; exact jzn h
theorem fz1023 {v : Int32} (h : i2z v = v) : fits (jtp 1023) (.int v) = true := by rw [tp1023]; exact jzf h
theorem tp1100 : jtp 1100 = .int := by decide +kernel
theorem wf1100 {x : jCx} {own : String} : jWr x own 1100 := jWr_n fun C T N h => by cases h; rfl
theorem ni1100 (v : Int32) : narrow (jtp 1100) (.int v) = .int v := by rw [tp1100]; rfl
theorem fi1100 (v : Int32) : fits (jtp 1100) (.int v) = true := by rw [tp1100]; rfl
theorem tp1101 : jtp 1101 = (.object "java/lang/IllegalStateException") := by decide +kernel
theorem wi1101 {x : jCx} {ret : Option FieldType} {hh : List (Nat × Nat × Nat × Nat)} (hm : jMt x "<init>" ret hh) : jWr x "CodeLayout$Halt" 1101 := jWr_i hm fun C T N h => by cases h; exact ⟨rfl, rfl⟩
theorem nr1101 (v : Nat) : narrow (jtp 1101) (jrv v) = jrv v := by rw [tp1101]; exact jnr_o _ v
theorem fr1101 (v : Nat) : fits (jtp 1101) (jrv v) = true := by rw [tp1101]; exact jft_o _ v
theorem tp1200 : jtp 1200 = (.object "CodeLayout$Program") := by decide +kernel
theorem wi1200 {x : jCx} {ret : Option FieldType} {hh : List (Nat × Nat × Nat × Nat)} (hm : jMt x "<init>" ret hh) : jWr x "CodeLayout$Memory" 1200 := jWr_i hm fun C T N h => by cases h; exact ⟨rfl, rfl⟩
theorem nr1200 (v : Nat) : narrow (jtp 1200) (jrv v) = jrv v := by rw [tp1200]; exact jnr_o _ v
theorem fr1200 (v : Nat) : fits (jtp 1200) (jrv v) = true := by rw [tp1200]; exact jft_o _ v
theorem tp1201 : jtp 1201 = (.object "CodeLayout$Halt") := by decide +kernel
theorem wi1201 {x : jCx} {ret : Option FieldType} {hh : List (Nat × Nat × Nat × Nat)} (hm : jMt x "<init>" ret hh) : jWr x "CodeLayout$Memory" 1201 := jWr_i hm fun C T N h => by cases h; exact ⟨rfl, rfl⟩
theorem nr1201 (v : Nat) : narrow (jtp 1201) (jrv v) = jrv v := by rw [tp1201]; exact jnr_o _ v
theorem fr1201 (v : Nat) : fits (jtp 1201) (jrv v) = true := by rw [tp1201]; exact jft_o _ v
theorem tp1202 : jtp 1202 = (.array .byte) := by decide +kernel
theorem wi1202 {x : jCx} {ret : Option FieldType} {hh : List (Nat × Nat × Nat × Nat)} (hm : jMt x "<init>" ret hh) : jWr x "CodeLayout$Memory" 1202 := jWr_i hm fun C T N h => by cases h; exact ⟨rfl, rfl⟩
theorem nr1202 (v : Nat) : narrow (jtp 1202) (jrv v) = jrv v := by rw [tp1202]; exact jnr_a _ v
theorem fr1202 (v : Nat) : fits (jtp 1202) (jrv v) = true := by rw [tp1202]; exact jft_a _ v
theorem tp1203 : jtp 1203 = (.array .int) := by decide +kernel
theorem wi1203 {x : jCx} {ret : Option FieldType} {hh : List (Nat × Nat × Nat × Nat)} (hm : jMt x "<init>" ret hh) : jWr x "CodeLayout$Memory" 1203 := jWr_i hm fun C T N h => by cases h; exact ⟨rfl, rfl⟩
theorem nr1203 (v : Nat) : narrow (jtp 1203) (jrv v) = jrv v := by rw [tp1203]; exact jnr_a _ v
theorem fr1203 (v : Nat) : fits (jtp 1203) (jrv v) = true := by rw [tp1203]; exact jft_a _ v
theorem tp1204 : jtp 1204 = (.array .int) := by decide +kernel
theorem wi1204 {x : jCx} {ret : Option FieldType} {hh : List (Nat × Nat × Nat × Nat)} (hm : jMt x "<init>" ret hh) : jWr x "CodeLayout$Memory" 1204 := jWr_i hm fun C T N h => by cases h; exact ⟨rfl, rfl⟩
theorem nr1204 (v : Nat) : narrow (jtp 1204) (jrv v) = jrv v := by rw [tp1204]; exact jnr_a _ v
theorem fr1204 (v : Nat) : fits (jtp 1204) (jrv v) = true := by rw [tp1204]; exact jft_a _ v
theorem tp1205 : jtp 1205 = (.array .byte) := by decide +kernel
theorem wi1205 {x : jCx} {ret : Option FieldType} {hh : List (Nat × Nat × Nat × Nat)} (hm : jMt x "<init>" ret hh) : jWr x "CodeLayout$Memory" 1205 := jWr_i hm fun C T N h => by cases h; exact ⟨rfl, rfl⟩
theorem nr1205 (v : Nat) : narrow (jtp 1205) (jrv v) = jrv v := by rw [tp1205]; exact jnr_a _ v
theorem fr1205 (v : Nat) : fits (jtp 1205) (jrv v) = true := by rw [tp1205]; exact jft_a _ v
theorem tp1206 : jtp 1206 = (.array .int) := by decide +kernel
theorem wi1206 {x : jCx} {ret : Option FieldType} {hh : List (Nat × Nat × Nat × Nat)} (hm : jMt x "<init>" ret hh) : jWr x "CodeLayout$Memory" 1206 := jWr_i hm fun C T N h => by cases h; exact ⟨rfl, rfl⟩
theorem nr1206 (v : Nat) : narrow (jtp 1206) (jrv v) = jrv v := by rw [tp1206]; exact jnr_a _ v
theorem fr1206 (v : Nat) : fits (jtp 1206) (jrv v) = true := by rw [tp1206]; exact jft_a _ v
theorem tp1300 : jtp 1300 = (.array .byte) := by decide +kernel
theorem wi1300 {x : jCx} {ret : Option FieldType} {hh : List (Nat × Nat × Nat × Nat)} (hm : jMt x "<init>" ret hh) : jWr x "CodeLayoutModel" 1300 := jWr_i hm fun C T N h => by cases h; exact ⟨rfl, rfl⟩
theorem nr1300 (v : Nat) : narrow (jtp 1300) (jrv v) = jrv v := by rw [tp1300]; exact jnr_a _ v
theorem fr1300 (v : Nat) : fits (jtp 1300) (jrv v) = true := by rw [tp1300]; exact jft_a _ v
theorem tp1301 : jtp 1301 = .int := by decide +kernel
theorem wf1301 {x : jCx} {own : String} : jWr x own 1301 := jWr_n fun C T N h => by cases h; rfl
theorem ni1301 (v : Int32) : narrow (jtp 1301) (.int v) = .int v := by rw [tp1301]; rfl
theorem fi1301 (v : Int32) : fits (jtp 1301) (.int v) = true := by rw [tp1301]; rfl
theorem tp1302 : jtp 1302 = .int := by decide +kernel
theorem wf1302 {x : jCx} {own : String} : jWr x own 1302 := jWr_n fun C T N h => by cases h; rfl
theorem ni1302 (v : Int32) : narrow (jtp 1302) (.int v) = .int v := by rw [tp1302]; rfl
theorem fi1302 (v : Int32) : fits (jtp 1302) (.int v) = true := by rw [tp1302]; rfl
theorem tp1303 : jtp 1303 = (.array .byte) := by decide +kernel
theorem wf1303 {x : jCx} {own : String} : jWr x own 1303 := jWr_n fun C T N h => by cases h; rfl
theorem nr1303 (v : Nat) : narrow (jtp 1303) (jrv v) = jrv v := by rw [tp1303]; exact jnr_a _ v
theorem fr1303 (v : Nat) : fits (jtp 1303) (jrv v) = true := by rw [tp1303]; exact jft_a _ v
theorem tp1304 : jtp 1304 = (.array .byte) := by decide +kernel
theorem wf1304 {x : jCx} {own : String} : jWr x own 1304 := jWr_n fun C T N h => by cases h; rfl
theorem nr1304 (v : Nat) : narrow (jtp 1304) (jrv v) = jrv v := by rw [tp1304]; exact jnr_a _ v
theorem fr1304 (v : Nat) : fits (jtp 1304) (jrv v) = true := by rw [tp1304]; exact jft_a _ v
theorem tp1305 : jtp 1305 = (.object "CodeLayoutModel$Heads") := by decide +kernel
theorem wf1305 {x : jCx} {own : String} : jWr x own 1305 := jWr_n fun C T N h => by cases h; rfl
theorem nr1305 (v : Nat) : narrow (jtp 1305) (jrv v) = jrv v := by rw [tp1305]; exact jnr_o _ v
theorem fr1305 (v : Nat) : fits (jtp 1305) (jrv v) = true := by rw [tp1305]; exact jft_o _ v
theorem tp1306 : jtp 1306 = (.object "CodeLayoutModel$Heads") := by decide +kernel
theorem wf1306 {x : jCx} {own : String} : jWr x own 1306 := jWr_n fun C T N h => by cases h; rfl
theorem nr1306 (v : Nat) : narrow (jtp 1306) (jrv v) = jrv v := by rw [tp1306]; exact jnr_o _ v
theorem fr1306 (v : Nat) : fits (jtp 1306) (jrv v) = true := by rw [tp1306]; exact jft_o _ v
theorem tp1307 : jtp 1307 = .boolean := by decide +kernel
theorem wf1307 {x : jCx} {own : String} : jWr x own 1307 := jWr_n fun C T N h => by cases h; rfl
theorem nz1307 {v : Int32} (h : i2z v = v) : narrow (jtp 1307) (.int v) = .int v := by rw [tp1307]; exact jzn h
theorem fz1307 {v : Int32} (h : i2z v = v) : fits (jtp 1307) (.int v) = true := by rw [tp1307]; exact jzf h
theorem tp1308 : jtp 1308 = .int := by decide +kernel
theorem wf1308 {x : jCx} {own : String} : jWr x own 1308 := jWr_n fun C T N h => by cases h; rfl
theorem ni1308 (v : Int32) : narrow (jtp 1308) (.int v) = .int v := by rw [tp1308]; rfl
theorem fi1308 (v : Int32) : fits (jtp 1308) (.int v) = true := by rw [tp1308]; rfl
theorem tp1309 : jtp 1309 = .int := by decide +kernel
theorem wf1309 {x : jCx} {own : String} : jWr x own 1309 := jWr_n fun C T N h => by cases h; rfl
theorem ni1309 (v : Int32) : narrow (jtp 1309) (.int v) = .int v := by rw [tp1309]; rfl
theorem fi1309 (v : Int32) : fits (jtp 1309) (.int v) = true := by rw [tp1309]; rfl
theorem tp1310 : jtp 1310 = .int := by decide +kernel
theorem wf1310 {x : jCx} {own : String} : jWr x own 1310 := jWr_n fun C T N h => by cases h; rfl
theorem ni1310 (v : Int32) : narrow (jtp 1310) (.int v) = .int v := by rw [tp1310]; rfl
theorem fi1310 (v : Int32) : fits (jtp 1310) (.int v) = true := by rw [tp1310]; rfl
theorem tp1311 : jtp 1311 = .int := by decide +kernel
theorem wf1311 {x : jCx} {own : String} : jWr x own 1311 := jWr_n fun C T N h => by cases h; rfl
theorem ni1311 (v : Int32) : narrow (jtp 1311) (.int v) = .int v := by rw [tp1311]; rfl
theorem fi1311 (v : Int32) : fits (jtp 1311) (.int v) = true := by rw [tp1311]; rfl
theorem tp1312 : jtp 1312 = .int := by decide +kernel
theorem wf1312 {x : jCx} {own : String} : jWr x own 1312 := jWr_n fun C T N h => by cases h; rfl
theorem ni1312 (v : Int32) : narrow (jtp 1312) (.int v) = .int v := by rw [tp1312]; rfl
theorem fi1312 (v : Int32) : fits (jtp 1312) (.int v) = true := by rw [tp1312]; rfl
theorem tp1313 : jtp 1313 = .long := by decide +kernel
theorem wf1313 {x : jCx} {own : String} : jWr x own 1313 := jWr_n fun C T N h => by cases h; rfl
theorem nl1313 (v : Int64) : narrow (jtp 1313) (.long v) = .long v := by rw [tp1313]; rfl
theorem ff1313 (v : Int64) : fits (jtp 1313) (.long v) = true := by rw [tp1313]; rfl
theorem tp1314 : jtp 1314 = .long := by decide +kernel
theorem wf1314 {x : jCx} {own : String} : jWr x own 1314 := jWr_n fun C T N h => by cases h; rfl
theorem nl1314 (v : Int64) : narrow (jtp 1314) (.long v) = .long v := by rw [tp1314]; rfl
theorem ff1314 (v : Int64) : fits (jtp 1314) (.long v) = true := by rw [tp1314]; rfl
theorem tp1315 : jtp 1315 = (.array .int) := by decide +kernel
theorem wi1315 {x : jCx} {ret : Option FieldType} {hh : List (Nat × Nat × Nat × Nat)} (hm : jMt x "<init>" ret hh) : jWr x "CodeLayoutModel" 1315 := jWr_i hm fun C T N h => by cases h; exact ⟨rfl, rfl⟩
theorem nr1315 (v : Nat) : narrow (jtp 1315) (jrv v) = jrv v := by rw [tp1315]; exact jnr_a _ v
theorem fr1315 (v : Nat) : fits (jtp 1315) (jrv v) = true := by rw [tp1315]; exact jft_a _ v
theorem tp1316 : jtp 1316 = (.array .int) := by decide +kernel
theorem wi1316 {x : jCx} {ret : Option FieldType} {hh : List (Nat × Nat × Nat × Nat)} (hm : jMt x "<init>" ret hh) : jWr x "CodeLayoutModel" 1316 := jWr_i hm fun C T N h => by cases h; exact ⟨rfl, rfl⟩
theorem nr1316 (v : Nat) : narrow (jtp 1316) (jrv v) = jrv v := by rw [tp1316]; exact jnr_a _ v
theorem fr1316 (v : Nat) : fits (jtp 1316) (jrv v) = true := by rw [tp1316]; exact jft_a _ v
theorem tp1317 : jtp 1317 = (.array .int) := by decide +kernel
theorem wi1317 {x : jCx} {ret : Option FieldType} {hh : List (Nat × Nat × Nat × Nat)} (hm : jMt x "<init>" ret hh) : jWr x "CodeLayoutModel" 1317 := jWr_i hm fun C T N h => by cases h; exact ⟨rfl, rfl⟩
theorem nr1317 (v : Nat) : narrow (jtp 1317) (jrv v) = jrv v := by rw [tp1317]; exact jnr_a _ v
theorem fr1317 (v : Nat) : fits (jtp 1317) (jrv v) = true := by rw [tp1317]; exact jft_a _ v
theorem tp1318 : jtp 1318 = (.array .boolean) := by decide +kernel
theorem wi1318 {x : jCx} {ret : Option FieldType} {hh : List (Nat × Nat × Nat × Nat)} (hm : jMt x "<init>" ret hh) : jWr x "CodeLayoutModel" 1318 := jWr_i hm fun C T N h => by cases h; exact ⟨rfl, rfl⟩
theorem nr1318 (v : Nat) : narrow (jtp 1318) (jrv v) = jrv v := by rw [tp1318]; exact jnr_a _ v
theorem fr1318 (v : Nat) : fits (jtp 1318) (jrv v) = true := by rw [tp1318]; exact jft_a _ v
theorem tp1319 : jtp 1319 = (.array .int) := by decide +kernel
theorem wi1319 {x : jCx} {ret : Option FieldType} {hh : List (Nat × Nat × Nat × Nat)} (hm : jMt x "<init>" ret hh) : jWr x "CodeLayoutModel" 1319 := jWr_i hm fun C T N h => by cases h; exact ⟨rfl, rfl⟩
theorem nr1319 (v : Nat) : narrow (jtp 1319) (jrv v) = jrv v := by rw [tp1319]; exact jnr_a _ v
theorem fr1319 (v : Nat) : fits (jtp 1319) (jrv v) = true := by rw [tp1319]; exact jft_a _ v
theorem tp1320 : jtp 1320 = (.array .int) := by decide +kernel
theorem wi1320 {x : jCx} {ret : Option FieldType} {hh : List (Nat × Nat × Nat × Nat)} (hm : jMt x "<init>" ret hh) : jWr x "CodeLayoutModel" 1320 := jWr_i hm fun C T N h => by cases h; exact ⟨rfl, rfl⟩
theorem nr1320 (v : Nat) : narrow (jtp 1320) (jrv v) = jrv v := by rw [tp1320]; exact jnr_a _ v
theorem fr1320 (v : Nat) : fits (jtp 1320) (jrv v) = true := by rw [tp1320]; exact jft_a _ v
theorem tp1321 : jtp 1321 = (.array .int) := by decide +kernel
theorem wi1321 {x : jCx} {ret : Option FieldType} {hh : List (Nat × Nat × Nat × Nat)} (hm : jMt x "<init>" ret hh) : jWr x "CodeLayoutModel" 1321 := jWr_i hm fun C T N h => by cases h; exact ⟨rfl, rfl⟩
theorem nr1321 (v : Nat) : narrow (jtp 1321) (jrv v) = jrv v := by rw [tp1321]; exact jnr_a _ v
theorem fr1321 (v : Nat) : fits (jtp 1321) (jrv v) = true := by rw [tp1321]; exact jft_a _ v
theorem tp1322 : jtp 1322 = (.array .int) := by decide +kernel
theorem wi1322 {x : jCx} {ret : Option FieldType} {hh : List (Nat × Nat × Nat × Nat)} (hm : jMt x "<init>" ret hh) : jWr x "CodeLayoutModel" 1322 := jWr_i hm fun C T N h => by cases h; exact ⟨rfl, rfl⟩
theorem nr1322 (v : Nat) : narrow (jtp 1322) (jrv v) = jrv v := by rw [tp1322]; exact jnr_a _ v
theorem fr1322 (v : Nat) : fits (jtp 1322) (jrv v) = true := by rw [tp1322]; exact jft_a _ v
theorem tp1323 : jtp 1323 = (.array .int) := by decide +kernel
theorem wi1323 {x : jCx} {ret : Option FieldType} {hh : List (Nat × Nat × Nat × Nat)} (hm : jMt x "<init>" ret hh) : jWr x "CodeLayoutModel" 1323 := jWr_i hm fun C T N h => by cases h; exact ⟨rfl, rfl⟩
theorem nr1323 (v : Nat) : narrow (jtp 1323) (jrv v) = jrv v := by rw [tp1323]; exact jnr_a _ v
theorem fr1323 (v : Nat) : fits (jtp 1323) (jrv v) = true := by rw [tp1323]; exact jft_a _ v
theorem tp1324 : jtp 1324 = (.array .int) := by decide +kernel
theorem wi1324 {x : jCx} {ret : Option FieldType} {hh : List (Nat × Nat × Nat × Nat)} (hm : jMt x "<init>" ret hh) : jWr x "CodeLayoutModel" 1324 := jWr_i hm fun C T N h => by cases h; exact ⟨rfl, rfl⟩
theorem nr1324 (v : Nat) : narrow (jtp 1324) (jrv v) = jrv v := by rw [tp1324]; exact jnr_a _ v
theorem fr1324 (v : Nat) : fits (jtp 1324) (jrv v) = true := by rw [tp1324]; exact jft_a _ v
theorem tp1325 : jtp 1325 = (.array .int) := by decide +kernel
theorem wi1325 {x : jCx} {ret : Option FieldType} {hh : List (Nat × Nat × Nat × Nat)} (hm : jMt x "<init>" ret hh) : jWr x "CodeLayoutModel" 1325 := jWr_i hm fun C T N h => by cases h; exact ⟨rfl, rfl⟩
theorem nr1325 (v : Nat) : narrow (jtp 1325) (jrv v) = jrv v := by rw [tp1325]; exact jnr_a _ v
theorem fr1325 (v : Nat) : fits (jtp 1325) (jrv v) = true := by rw [tp1325]; exact jft_a _ v
theorem tp1326 : jtp 1326 = (.array .int) := by decide +kernel
theorem wi1326 {x : jCx} {ret : Option FieldType} {hh : List (Nat × Nat × Nat × Nat)} (hm : jMt x "<init>" ret hh) : jWr x "CodeLayoutModel" 1326 := jWr_i hm fun C T N h => by cases h; exact ⟨rfl, rfl⟩
theorem nr1326 (v : Nat) : narrow (jtp 1326) (jrv v) = jrv v := by rw [tp1326]; exact jnr_a _ v
theorem fr1326 (v : Nat) : fits (jtp 1326) (jrv v) = true := by rw [tp1326]; exact jft_a _ v
theorem tp1327 : jtp 1327 = (.array .boolean) := by decide +kernel
theorem wi1327 {x : jCx} {ret : Option FieldType} {hh : List (Nat × Nat × Nat × Nat)} (hm : jMt x "<init>" ret hh) : jWr x "CodeLayoutModel" 1327 := jWr_i hm fun C T N h => by cases h; exact ⟨rfl, rfl⟩
theorem nr1327 (v : Nat) : narrow (jtp 1327) (jrv v) = jrv v := by rw [tp1327]; exact jnr_a _ v
theorem fr1327 (v : Nat) : fits (jtp 1327) (jrv v) = true := by rw [tp1327]; exact jft_a _ v
theorem tp1328 : jtp 1328 = .int := by decide +kernel
theorem wf1328 {x : jCx} {own : String} : jWr x own 1328 := jWr_n fun C T N h => by cases h; rfl
theorem ni1328 (v : Int32) : narrow (jtp 1328) (.int v) = .int v := by rw [tp1328]; rfl
theorem fi1328 (v : Int32) : fits (jtp 1328) (.int v) = true := by rw [tp1328]; rfl
theorem tp1329 : jtp 1329 = .int := by decide +kernel
theorem wf1329 {x : jCx} {own : String} : jWr x own 1329 := jWr_n fun C T N h => by cases h; rfl
theorem ni1329 (v : Int32) : narrow (jtp 1329) (.int v) = .int v := by rw [tp1329]; rfl
theorem fi1329 (v : Int32) : fits (jtp 1329) (.int v) = true := by rw [tp1329]; rfl
theorem tp1330 : jtp 1330 = (.array .int) := by decide +kernel
theorem wf1330 {x : jCx} {own : String} : jWr x own 1330 := jWr_n fun C T N h => by cases h; rfl
theorem nr1330 (v : Nat) : narrow (jtp 1330) (jrv v) = jrv v := by rw [tp1330]; exact jnr_a _ v
theorem fr1330 (v : Nat) : fits (jtp 1330) (jrv v) = true := by rw [tp1330]; exact jft_a _ v
theorem tp1331 : jtp 1331 = (.array .int) := by decide +kernel
theorem wf1331 {x : jCx} {own : String} : jWr x own 1331 := jWr_n fun C T N h => by cases h; rfl
theorem nr1331 (v : Nat) : narrow (jtp 1331) (jrv v) = jrv v := by rw [tp1331]; exact jnr_a _ v
theorem fr1331 (v : Nat) : fits (jtp 1331) (jrv v) = true := by rw [tp1331]; exact jft_a _ v
theorem tp1332 : jtp 1332 = (.array .boolean) := by decide +kernel
theorem wf1332 {x : jCx} {own : String} : jWr x own 1332 := jWr_n fun C T N h => by cases h; rfl
theorem nr1332 (v : Nat) : narrow (jtp 1332) (jrv v) = jrv v := by rw [tp1332]; exact jnr_a _ v
theorem fr1332 (v : Nat) : fits (jtp 1332) (jrv v) = true := by rw [tp1332]; exact jft_a _ v
theorem tp1333 : jtp 1333 = (.array .long) := by decide +kernel
theorem wf1333 {x : jCx} {own : String} : jWr x own 1333 := jWr_n fun C T N h => by cases h; rfl
theorem nr1333 (v : Nat) : narrow (jtp 1333) (jrv v) = jrv v := by rw [tp1333]; exact jnr_a _ v
theorem fr1333 (v : Nat) : fits (jtp 1333) (jrv v) = true := by rw [tp1333]; exact jft_a _ v
theorem tp1334 : jtp 1334 = (.array .boolean) := by decide +kernel
theorem wi1334 {x : jCx} {ret : Option FieldType} {hh : List (Nat × Nat × Nat × Nat)} (hm : jMt x "<init>" ret hh) : jWr x "CodeLayoutModel" 1334 := jWr_i hm fun C T N h => by cases h; exact ⟨rfl, rfl⟩
theorem nr1334 (v : Nat) : narrow (jtp 1334) (jrv v) = jrv v := by rw [tp1334]; exact jnr_a _ v
theorem fr1334 (v : Nat) : fits (jtp 1334) (jrv v) = true := by rw [tp1334]; exact jft_a _ v
theorem tp1335 : jtp 1335 = (.array .int) := by decide +kernel
theorem wi1335 {x : jCx} {ret : Option FieldType} {hh : List (Nat × Nat × Nat × Nat)} (hm : jMt x "<init>" ret hh) : jWr x "CodeLayoutModel" 1335 := jWr_i hm fun C T N h => by cases h; exact ⟨rfl, rfl⟩
theorem nr1335 (v : Nat) : narrow (jtp 1335) (jrv v) = jrv v := by rw [tp1335]; exact jnr_a _ v
theorem fr1335 (v : Nat) : fits (jtp 1335) (jrv v) = true := by rw [tp1335]; exact jft_a _ v
theorem tp1336 : jtp 1336 = (.array .int) := by decide +kernel
theorem wi1336 {x : jCx} {ret : Option FieldType} {hh : List (Nat × Nat × Nat × Nat)} (hm : jMt x "<init>" ret hh) : jWr x "CodeLayoutModel" 1336 := jWr_i hm fun C T N h => by cases h; exact ⟨rfl, rfl⟩
theorem nr1336 (v : Nat) : narrow (jtp 1336) (jrv v) = jrv v := by rw [tp1336]; exact jnr_a _ v
theorem fr1336 (v : Nat) : fits (jtp 1336) (jrv v) = true := by rw [tp1336]; exact jft_a _ v
theorem tp1337 : jtp 1337 = (.array .boolean) := by decide +kernel
theorem wi1337 {x : jCx} {ret : Option FieldType} {hh : List (Nat × Nat × Nat × Nat)} (hm : jMt x "<init>" ret hh) : jWr x "CodeLayoutModel" 1337 := jWr_i hm fun C T N h => by cases h; exact ⟨rfl, rfl⟩
theorem nr1337 (v : Nat) : narrow (jtp 1337) (jrv v) = jrv v := by rw [tp1337]; exact jnr_a _ v
theorem fr1337 (v : Nat) : fits (jtp 1337) (jrv v) = true := by rw [tp1337]; exact jft_a _ v
theorem tp1338 : jtp 1338 = (.array .int) := by decide +kernel
theorem wi1338 {x : jCx} {ret : Option FieldType} {hh : List (Nat × Nat × Nat × Nat)} (hm : jMt x "<init>" ret hh) : jWr x "CodeLayoutModel" 1338 := jWr_i hm fun C T N h => by cases h; exact ⟨rfl, rfl⟩
theorem nr1338 (v : Nat) : narrow (jtp 1338) (jrv v) = jrv v := by rw [tp1338]; exact jnr_a _ v
theorem fr1338 (v : Nat) : fits (jtp 1338) (jrv v) = true := by rw [tp1338]; exact jft_a _ v
theorem tp1339 : jtp 1339 = (.array .int) := by decide +kernel
theorem wi1339 {x : jCx} {ret : Option FieldType} {hh : List (Nat × Nat × Nat × Nat)} (hm : jMt x "<init>" ret hh) : jWr x "CodeLayoutModel" 1339 := jWr_i hm fun C T N h => by cases h; exact ⟨rfl, rfl⟩
theorem nr1339 (v : Nat) : narrow (jtp 1339) (jrv v) = jrv v := by rw [tp1339]; exact jnr_a _ v
theorem fr1339 (v : Nat) : fits (jtp 1339) (jrv v) = true := by rw [tp1339]; exact jft_a _ v
theorem tp1340 : jtp 1340 = (.array .long) := by decide +kernel
theorem wi1340 {x : jCx} {ret : Option FieldType} {hh : List (Nat × Nat × Nat × Nat)} (hm : jMt x "<init>" ret hh) : jWr x "CodeLayoutModel" 1340 := jWr_i hm fun C T N h => by cases h; exact ⟨rfl, rfl⟩
theorem nr1340 (v : Nat) : narrow (jtp 1340) (jrv v) = jrv v := by rw [tp1340]; exact jnr_a _ v
theorem fr1340 (v : Nat) : fits (jtp 1340) (jrv v) = true := by rw [tp1340]; exact jft_a _ v
theorem tp1341 : jtp 1341 = (.array .long) := by decide +kernel
theorem wi1341 {x : jCx} {ret : Option FieldType} {hh : List (Nat × Nat × Nat × Nat)} (hm : jMt x "<init>" ret hh) : jWr x "CodeLayoutModel" 1341 := jWr_i hm fun C T N h => by cases h; exact ⟨rfl, rfl⟩
theorem nr1341 (v : Nat) : narrow (jtp 1341) (jrv v) = jrv v := by rw [tp1341]; exact jnr_a _ v
theorem fr1341 (v : Nat) : fits (jtp 1341) (jrv v) = true := by rw [tp1341]; exact jft_a _ v
theorem tp1342 : jtp 1342 = (.array .int) := by decide +kernel
theorem wi1342 {x : jCx} {ret : Option FieldType} {hh : List (Nat × Nat × Nat × Nat)} (hm : jMt x "<init>" ret hh) : jWr x "CodeLayoutModel" 1342 := jWr_i hm fun C T N h => by cases h; exact ⟨rfl, rfl⟩
theorem nr1342 (v : Nat) : narrow (jtp 1342) (jrv v) = jrv v := by rw [tp1342]; exact jnr_a _ v
theorem fr1342 (v : Nat) : fits (jtp 1342) (jrv v) = true := by rw [tp1342]; exact jft_a _ v
theorem tp1343 : jtp 1343 = (.array .int) := by decide +kernel
theorem wi1343 {x : jCx} {ret : Option FieldType} {hh : List (Nat × Nat × Nat × Nat)} (hm : jMt x "<init>" ret hh) : jWr x "CodeLayoutModel" 1343 := jWr_i hm fun C T N h => by cases h; exact ⟨rfl, rfl⟩
theorem nr1343 (v : Nat) : narrow (jtp 1343) (jrv v) = jrv v := by rw [tp1343]; exact jnr_a _ v
theorem fr1343 (v : Nat) : fits (jtp 1343) (jrv v) = true := by rw [tp1343]; exact jft_a _ v
theorem tp1344 : jtp 1344 = (.array .int) := by decide +kernel
theorem wi1344 {x : jCx} {ret : Option FieldType} {hh : List (Nat × Nat × Nat × Nat)} (hm : jMt x "<init>" ret hh) : jWr x "CodeLayoutModel" 1344 := jWr_i hm fun C T N h => by cases h; exact ⟨rfl, rfl⟩
theorem nr1344 (v : Nat) : narrow (jtp 1344) (jrv v) = jrv v := by rw [tp1344]; exact jnr_a _ v
theorem fr1344 (v : Nat) : fits (jtp 1344) (jrv v) = true := by rw [tp1344]; exact jft_a _ v
theorem tp1345 : jtp 1345 = (.array .long) := by decide +kernel
theorem wi1345 {x : jCx} {ret : Option FieldType} {hh : List (Nat × Nat × Nat × Nat)} (hm : jMt x "<init>" ret hh) : jWr x "CodeLayoutModel" 1345 := jWr_i hm fun C T N h => by cases h; exact ⟨rfl, rfl⟩
theorem nr1345 (v : Nat) : narrow (jtp 1345) (jrv v) = jrv v := by rw [tp1345]; exact jnr_a _ v
theorem fr1345 (v : Nat) : fits (jtp 1345) (jrv v) = true := by rw [tp1345]; exact jft_a _ v
theorem tp1346 : jtp 1346 = (.array .long) := by decide +kernel
theorem wi1346 {x : jCx} {ret : Option FieldType} {hh : List (Nat × Nat × Nat × Nat)} (hm : jMt x "<init>" ret hh) : jWr x "CodeLayoutModel" 1346 := jWr_i hm fun C T N h => by cases h; exact ⟨rfl, rfl⟩
theorem nr1346 (v : Nat) : narrow (jtp 1346) (jrv v) = jrv v := by rw [tp1346]; exact jnr_a _ v
theorem fr1346 (v : Nat) : fits (jtp 1346) (jrv v) = true := by rw [tp1346]; exact jft_a _ v
theorem tp1347 : jtp 1347 = (.array .long) := by decide +kernel
theorem wi1347 {x : jCx} {ret : Option FieldType} {hh : List (Nat × Nat × Nat × Nat)} (hm : jMt x "<init>" ret hh) : jWr x "CodeLayoutModel" 1347 := jWr_i hm fun C T N h => by cases h; exact ⟨rfl, rfl⟩
theorem nr1347 (v : Nat) : narrow (jtp 1347) (jrv v) = jrv v := by rw [tp1347]; exact jnr_a _ v
theorem fr1347 (v : Nat) : fits (jtp 1347) (jrv v) = true := by rw [tp1347]; exact jft_a _ v
theorem tp1348 : jtp 1348 = (.array .int) := by decide +kernel
theorem wi1348 {x : jCx} {ret : Option FieldType} {hh : List (Nat × Nat × Nat × Nat)} (hm : jMt x "<init>" ret hh) : jWr x "CodeLayoutModel" 1348 := jWr_i hm fun C T N h => by cases h; exact ⟨rfl, rfl⟩
theorem nr1348 (v : Nat) : narrow (jtp 1348) (jrv v) = jrv v := by rw [tp1348]; exact jnr_a _ v
theorem fr1348 (v : Nat) : fits (jtp 1348) (jrv v) = true := by rw [tp1348]; exact jft_a _ v
theorem tp1349 : jtp 1349 = (.array .long) := by decide +kernel
theorem wi1349 {x : jCx} {ret : Option FieldType} {hh : List (Nat × Nat × Nat × Nat)} (hm : jMt x "<init>" ret hh) : jWr x "CodeLayoutModel" 1349 := jWr_i hm fun C T N h => by cases h; exact ⟨rfl, rfl⟩
theorem nr1349 (v : Nat) : narrow (jtp 1349) (jrv v) = jrv v := by rw [tp1349]; exact jnr_a _ v
theorem fr1349 (v : Nat) : fits (jtp 1349) (jrv v) = true := by rw [tp1349]; exact jft_a _ v
theorem tp1350 : jtp 1350 = (.object "CodeLayoutModel$Written") := by decide +kernel
theorem wi1350 {x : jCx} {ret : Option FieldType} {hh : List (Nat × Nat × Nat × Nat)} (hm : jMt x "<init>" ret hh) : jWr x "CodeLayoutModel" 1350 := jWr_i hm fun C T N h => by cases h; exact ⟨rfl, rfl⟩
theorem nr1350 (v : Nat) : narrow (jtp 1350) (jrv v) = jrv v := by rw [tp1350]; exact jnr_o _ v
theorem fr1350 (v : Nat) : fits (jtp 1350) (jrv v) = true := by rw [tp1350]; exact jft_o _ v
theorem tp1351 : jtp 1351 = (.object "CodeLayoutModel$Written") := by decide +kernel
theorem wi1351 {x : jCx} {ret : Option FieldType} {hh : List (Nat × Nat × Nat × Nat)} (hm : jMt x "<init>" ret hh) : jWr x "CodeLayoutModel" 1351 := jWr_i hm fun C T N h => by cases h; exact ⟨rfl, rfl⟩
theorem nr1351 (v : Nat) : narrow (jtp 1351) (jrv v) = jrv v := by rw [tp1351]; exact jnr_o _ v
theorem fr1351 (v : Nat) : fits (jtp 1351) (jrv v) = true := by rw [tp1351]; exact jft_o _ v
theorem tp1352 : jtp 1352 = .boolean := by decide +kernel
theorem wf1352 {x : jCx} {own : String} : jWr x own 1352 := jWr_n fun C T N h => by cases h; rfl
theorem nz1352 {v : Int32} (h : i2z v = v) : narrow (jtp 1352) (.int v) = .int v := by rw [tp1352]; exact jzn h
theorem fz1352 {v : Int32} (h : i2z v = v) : fits (jtp 1352) (.int v) = true := by rw [tp1352]; exact jzf h
theorem tp1353 : jtp 1353 = .int := by decide +kernel
theorem wf1353 {x : jCx} {own : String} : jWr x own 1353 := jWr_n fun C T N h => by cases h; rfl
theorem ni1353 (v : Int32) : narrow (jtp 1353) (.int v) = .int v := by rw [tp1353]; rfl
theorem fi1353 (v : Int32) : fits (jtp 1353) (.int v) = true := by rw [tp1353]; rfl
theorem tp1354 : jtp 1354 = (.array .byte) := by decide +kernel
theorem wi1354 {x : jCx} {ret : Option FieldType} {hh : List (Nat × Nat × Nat × Nat)} (hm : jMt x "<init>" ret hh) : jWr x "CodeLayoutModel" 1354 := jWr_i hm fun C T N h => by cases h; exact ⟨rfl, rfl⟩
theorem nr1354 (v : Nat) : narrow (jtp 1354) (jrv v) = jrv v := by rw [tp1354]; exact jnr_a _ v
theorem fr1354 (v : Nat) : fits (jtp 1354) (jrv v) = true := by rw [tp1354]; exact jft_a _ v
theorem tp1355 : jtp 1355 = .int := by decide +kernel
theorem wf1355 {x : jCx} {own : String} : jWr x own 1355 := jWr_n fun C T N h => by cases h; rfl
theorem ni1355 (v : Int32) : narrow (jtp 1355) (.int v) = .int v := by rw [tp1355]; rfl
theorem fi1355 (v : Int32) : fits (jtp 1355) (.int v) = true := by rw [tp1355]; rfl
theorem tp1356 : jtp 1356 = .int := by decide +kernel
theorem wf1356 {x : jCx} {own : String} : jWr x own 1356 := jWr_n fun C T N h => by cases h; rfl
theorem ni1356 (v : Int32) : narrow (jtp 1356) (.int v) = .int v := by rw [tp1356]; rfl
theorem fi1356 (v : Int32) : fits (jtp 1356) (.int v) = true := by rw [tp1356]; rfl
theorem tp1357 : jtp 1357 = .int := by decide +kernel
theorem wf1357 {x : jCx} {own : String} : jWr x own 1357 := jWr_n fun C T N h => by cases h; rfl
theorem ni1357 (v : Int32) : narrow (jtp 1357) (.int v) = .int v := by rw [tp1357]; rfl
theorem fi1357 (v : Int32) : fits (jtp 1357) (.int v) = true := by rw [tp1357]; rfl
theorem tp1358 : jtp 1358 = (.array .boolean) := by decide +kernel
theorem wi1358 {x : jCx} {ret : Option FieldType} {hh : List (Nat × Nat × Nat × Nat)} (hm : jMt x "<init>" ret hh) : jWr x "CodeLayoutModel" 1358 := jWr_i hm fun C T N h => by cases h; exact ⟨rfl, rfl⟩
theorem nr1358 (v : Nat) : narrow (jtp 1358) (jrv v) = jrv v := by rw [tp1358]; exact jnr_a _ v
theorem fr1358 (v : Nat) : fits (jtp 1358) (jrv v) = true := by rw [tp1358]; exact jft_a _ v
theorem tp1359 : jtp 1359 = (.array .boolean) := by decide +kernel
theorem wi1359 {x : jCx} {ret : Option FieldType} {hh : List (Nat × Nat × Nat × Nat)} (hm : jMt x "<init>" ret hh) : jWr x "CodeLayoutModel" 1359 := jWr_i hm fun C T N h => by cases h; exact ⟨rfl, rfl⟩
theorem nr1359 (v : Nat) : narrow (jtp 1359) (jrv v) = jrv v := by rw [tp1359]; exact jnr_a _ v
theorem fr1359 (v : Nat) : fits (jtp 1359) (jrv v) = true := by rw [tp1359]; exact jft_a _ v
theorem tp1360 : jtp 1360 = (.object "CodeLayoutModel$Heads") := by decide +kernel
theorem wi1360 {x : jCx} {ret : Option FieldType} {hh : List (Nat × Nat × Nat × Nat)} (hm : jMt x "<init>" ret hh) : jWr x "CodeLayoutModel" 1360 := jWr_i hm fun C T N h => by cases h; exact ⟨rfl, rfl⟩
theorem nr1360 (v : Nat) : narrow (jtp 1360) (jrv v) = jrv v := by rw [tp1360]; exact jnr_o _ v
theorem fr1360 (v : Nat) : fits (jtp 1360) (jrv v) = true := by rw [tp1360]; exact jft_o _ v
theorem tp1361 : jtp 1361 = (.object "CodeLayoutModel$Run") := by decide +kernel
theorem wi1361 {x : jCx} {ret : Option FieldType} {hh : List (Nat × Nat × Nat × Nat)} (hm : jMt x "<init>" ret hh) : jWr x "CodeLayoutModel" 1361 := jWr_i hm fun C T N h => by cases h; exact ⟨rfl, rfl⟩
theorem nr1361 (v : Nat) : narrow (jtp 1361) (jrv v) = jrv v := by rw [tp1361]; exact jnr_o _ v
theorem fr1361 (v : Nat) : fits (jtp 1361) (jrv v) = true := by rw [tp1361]; exact jft_o _ v
theorem tp1362 : jtp 1362 = (.object "CodeLayoutModel$Run") := by decide +kernel
theorem wi1362 {x : jCx} {ret : Option FieldType} {hh : List (Nat × Nat × Nat × Nat)} (hm : jMt x "<init>" ret hh) : jWr x "CodeLayoutModel" 1362 := jWr_i hm fun C T N h => by cases h; exact ⟨rfl, rfl⟩
theorem nr1362 (v : Nat) : narrow (jtp 1362) (jrv v) = jrv v := by rw [tp1362]; exact jnr_o _ v
theorem fr1362 (v : Nat) : fits (jtp 1362) (jrv v) = true := by rw [tp1362]; exact jft_o _ v
theorem tp1363 : jtp 1363 = (.object "CodeLayoutModel$Run") := by decide +kernel
theorem wi1363 {x : jCx} {ret : Option FieldType} {hh : List (Nat × Nat × Nat × Nat)} (hm : jMt x "<init>" ret hh) : jWr x "CodeLayoutModel" 1363 := jWr_i hm fun C T N h => by cases h; exact ⟨rfl, rfl⟩
theorem nr1363 (v : Nat) : narrow (jtp 1363) (jrv v) = jrv v := by rw [tp1363]; exact jnr_o _ v
theorem fr1363 (v : Nat) : fits (jtp 1363) (jrv v) = true := by rw [tp1363]; exact jft_o _ v
theorem tp1400 : jtp 1400 = (.array .byte) := by decide +kernel
theorem wf1400 {x : jCx} {own : String} : jWr x own 1400 := jWr_n fun C T N h => by cases h; rfl
theorem nr1400 (v : Nat) : narrow (jtp 1400) (jrv v) = jrv v := by rw [tp1400]; exact jnr_a _ v
theorem fr1400 (v : Nat) : fits (jtp 1400) (jrv v) = true := by rw [tp1400]; exact jft_a _ v
theorem tp1401 : jtp 1401 = .int := by decide +kernel
theorem wf1401 {x : jCx} {own : String} : jWr x own 1401 := jWr_n fun C T N h => by cases h; rfl
theorem ni1401 (v : Int32) : narrow (jtp 1401) (.int v) = .int v := by rw [tp1401]; rfl
theorem fi1401 (v : Int32) : fits (jtp 1401) (.int v) = true := by rw [tp1401]; rfl
theorem tp1402 : jtp 1402 = .int := by decide +kernel
theorem wf1402 {x : jCx} {own : String} : jWr x own 1402 := jWr_n fun C T N h => by cases h; rfl
theorem ni1402 (v : Int32) : narrow (jtp 1402) (.int v) = .int v := by rw [tp1402]; rfl
theorem fi1402 (v : Int32) : fits (jtp 1402) (.int v) = true := by rw [tp1402]; rfl
theorem tp1403 : jtp 1403 = .int := by decide +kernel
theorem wf1403 {x : jCx} {own : String} : jWr x own 1403 := jWr_n fun C T N h => by cases h; rfl
theorem ni1403 (v : Int32) : narrow (jtp 1403) (.int v) = .int v := by rw [tp1403]; rfl
theorem fi1403 (v : Int32) : fits (jtp 1403) (.int v) = true := by rw [tp1403]; rfl
theorem tp1404 : jtp 1404 = .int := by decide +kernel
theorem wf1404 {x : jCx} {own : String} : jWr x own 1404 := jWr_n fun C T N h => by cases h; rfl
theorem ni1404 (v : Int32) : narrow (jtp 1404) (.int v) = .int v := by rw [tp1404]; rfl
theorem fi1404 (v : Int32) : fits (jtp 1404) (.int v) = true := by rw [tp1404]; rfl
theorem tp1405 : jtp 1405 = .long := by decide +kernel
theorem wf1405 {x : jCx} {own : String} : jWr x own 1405 := jWr_n fun C T N h => by cases h; rfl
theorem nl1405 (v : Int64) : narrow (jtp 1405) (.long v) = .long v := by rw [tp1405]; rfl
theorem ff1405 (v : Int64) : fits (jtp 1405) (.long v) = true := by rw [tp1405]; rfl
theorem tp1406 : jtp 1406 = (.array .int) := by decide +kernel
theorem wi1406 {x : jCx} {ret : Option FieldType} {hh : List (Nat × Nat × Nat × Nat)} (hm : jMt x "<init>" ret hh) : jWr x "CodeLayoutModel$Heads" 1406 := jWr_i hm fun C T N h => by cases h; exact ⟨rfl, rfl⟩
theorem nr1406 (v : Nat) : narrow (jtp 1406) (jrv v) = jrv v := by rw [tp1406]; exact jnr_a _ v
theorem fr1406 (v : Nat) : fits (jtp 1406) (jrv v) = true := by rw [tp1406]; exact jft_a _ v
theorem tp1407 : jtp 1407 = (.array .int) := by decide +kernel
theorem wi1407 {x : jCx} {ret : Option FieldType} {hh : List (Nat × Nat × Nat × Nat)} (hm : jMt x "<init>" ret hh) : jWr x "CodeLayoutModel$Heads" 1407 := jWr_i hm fun C T N h => by cases h; exact ⟨rfl, rfl⟩
theorem nr1407 (v : Nat) : narrow (jtp 1407) (jrv v) = jrv v := by rw [tp1407]; exact jnr_a _ v
theorem fr1407 (v : Nat) : fits (jtp 1407) (jrv v) = true := by rw [tp1407]; exact jft_a _ v
theorem tp1408 : jtp 1408 = (.array .long) := by decide +kernel
theorem wi1408 {x : jCx} {ret : Option FieldType} {hh : List (Nat × Nat × Nat × Nat)} (hm : jMt x "<init>" ret hh) : jWr x "CodeLayoutModel$Heads" 1408 := jWr_i hm fun C T N h => by cases h; exact ⟨rfl, rfl⟩
theorem nr1408 (v : Nat) : narrow (jtp 1408) (jrv v) = jrv v := by rw [tp1408]; exact jnr_a _ v
theorem fr1408 (v : Nat) : fits (jtp 1408) (jrv v) = true := by rw [tp1408]; exact jft_a _ v
theorem tp1409 : jtp 1409 = (.array .int) := by decide +kernel
theorem wi1409 {x : jCx} {ret : Option FieldType} {hh : List (Nat × Nat × Nat × Nat)} (hm : jMt x "<init>" ret hh) : jWr x "CodeLayoutModel$Heads" 1409 := jWr_i hm fun C T N h => by cases h; exact ⟨rfl, rfl⟩
theorem nr1409 (v : Nat) : narrow (jtp 1409) (jrv v) = jrv v := by rw [tp1409]; exact jnr_a _ v
theorem fr1409 (v : Nat) : fits (jtp 1409) (jrv v) = true := by rw [tp1409]; exact jft_a _ v
theorem tp1410 : jtp 1410 = (.array .int) := by decide +kernel
theorem wi1410 {x : jCx} {ret : Option FieldType} {hh : List (Nat × Nat × Nat × Nat)} (hm : jMt x "<init>" ret hh) : jWr x "CodeLayoutModel$Heads" 1410 := jWr_i hm fun C T N h => by cases h; exact ⟨rfl, rfl⟩
theorem nr1410 (v : Nat) : narrow (jtp 1410) (jrv v) = jrv v := by rw [tp1410]; exact jnr_a _ v
theorem fr1410 (v : Nat) : fits (jtp 1410) (jrv v) = true := by rw [tp1410]; exact jft_a _ v
theorem tp1411 : jtp 1411 = (.array .int) := by decide +kernel
theorem wi1411 {x : jCx} {ret : Option FieldType} {hh : List (Nat × Nat × Nat × Nat)} (hm : jMt x "<init>" ret hh) : jWr x "CodeLayoutModel$Heads" 1411 := jWr_i hm fun C T N h => by cases h; exact ⟨rfl, rfl⟩
theorem nr1411 (v : Nat) : narrow (jtp 1411) (jrv v) = jrv v := by rw [tp1411]; exact jnr_a _ v
theorem fr1411 (v : Nat) : fits (jtp 1411) (jrv v) = true := by rw [tp1411]; exact jft_a _ v
theorem tp1412 : jtp 1412 = (.array .long) := by decide +kernel
theorem wi1412 {x : jCx} {ret : Option FieldType} {hh : List (Nat × Nat × Nat × Nat)} (hm : jMt x "<init>" ret hh) : jWr x "CodeLayoutModel$Heads" 1412 := jWr_i hm fun C T N h => by cases h; exact ⟨rfl, rfl⟩
theorem nr1412 (v : Nat) : narrow (jtp 1412) (jrv v) = jrv v := by rw [tp1412]; exact jnr_a _ v
theorem fr1412 (v : Nat) : fits (jtp 1412) (jrv v) = true := by rw [tp1412]; exact jft_a _ v
theorem tp1413 : jtp 1413 = (.array .long) := by decide +kernel
theorem wi1413 {x : jCx} {ret : Option FieldType} {hh : List (Nat × Nat × Nat × Nat)} (hm : jMt x "<init>" ret hh) : jWr x "CodeLayoutModel$Heads" 1413 := jWr_i hm fun C T N h => by cases h; exact ⟨rfl, rfl⟩
theorem nr1413 (v : Nat) : narrow (jtp 1413) (jrv v) = jrv v := by rw [tp1413]; exact jnr_a _ v
theorem fr1413 (v : Nat) : fits (jtp 1413) (jrv v) = true := by rw [tp1413]; exact jft_a _ v
theorem tp1414 : jtp 1414 = (.array .long) := by decide +kernel
theorem wi1414 {x : jCx} {ret : Option FieldType} {hh : List (Nat × Nat × Nat × Nat)} (hm : jMt x "<init>" ret hh) : jWr x "CodeLayoutModel$Heads" 1414 := jWr_i hm fun C T N h => by cases h; exact ⟨rfl, rfl⟩
theorem nr1414 (v : Nat) : narrow (jtp 1414) (jrv v) = jrv v := by rw [tp1414]; exact jnr_a _ v
theorem fr1414 (v : Nat) : fits (jtp 1414) (jrv v) = true := by rw [tp1414]; exact jft_a _ v
theorem tp1415 : jtp 1415 = .int := by decide +kernel
theorem wf1415 {x : jCx} {own : String} : jWr x own 1415 := jWr_n fun C T N h => by cases h; rfl
theorem ni1415 (v : Int32) : narrow (jtp 1415) (.int v) = .int v := by rw [tp1415]; rfl
theorem fi1415 (v : Int32) : fits (jtp 1415) (.int v) = true := by rw [tp1415]; rfl
theorem tp1416 : jtp 1416 = .int := by decide +kernel
theorem wf1416 {x : jCx} {own : String} : jWr x own 1416 := jWr_n fun C T N h => by cases h; rfl
theorem ni1416 (v : Int32) : narrow (jtp 1416) (.int v) = .int v := by rw [tp1416]; rfl
theorem fi1416 (v : Int32) : fits (jtp 1416) (.int v) = true := by rw [tp1416]; rfl
theorem tp1417 : jtp 1417 = .long := by decide +kernel
theorem wf1417 {x : jCx} {own : String} : jWr x own 1417 := jWr_n fun C T N h => by cases h; rfl
theorem nl1417 (v : Int64) : narrow (jtp 1417) (.long v) = .long v := by rw [tp1417]; rfl
theorem ff1417 (v : Int64) : fits (jtp 1417) (.long v) = true := by rw [tp1417]; rfl
theorem tp1500 : jtp 1500 = (.object "CodeLayoutModel") := by decide +kernel
theorem wi1500 {x : jCx} {ret : Option FieldType} {hh : List (Nat × Nat × Nat × Nat)} (hm : jMt x "<init>" ret hh) : jWr x "CodeLayoutModel$Written" 1500 := jWr_i hm fun C T N h => by cases h; exact ⟨rfl, rfl⟩
theorem nr1500 (v : Nat) : narrow (jtp 1500) (jrv v) = jrv v := by rw [tp1500]; exact jnr_o _ v
theorem fr1500 (v : Nat) : fits (jtp 1500) (jrv v) = true := by rw [tp1500]; exact jft_o _ v
theorem tp1501 : jtp 1501 = (.array .int) := by decide +kernel
theorem wi1501 {x : jCx} {ret : Option FieldType} {hh : List (Nat × Nat × Nat × Nat)} (hm : jMt x "<init>" ret hh) : jWr x "CodeLayoutModel$Written" 1501 := jWr_i hm fun C T N h => by cases h; exact ⟨rfl, rfl⟩
theorem nr1501 (v : Nat) : narrow (jtp 1501) (jrv v) = jrv v := by rw [tp1501]; exact jnr_a _ v
theorem fr1501 (v : Nat) : fits (jtp 1501) (jrv v) = true := by rw [tp1501]; exact jft_a _ v
theorem tp1502 : jtp 1502 = .int := by decide +kernel
theorem wf1502 {x : jCx} {own : String} : jWr x own 1502 := jWr_n fun C T N h => by cases h; rfl
theorem ni1502 (v : Int32) : narrow (jtp 1502) (.int v) = .int v := by rw [tp1502]; rfl
theorem fi1502 (v : Int32) : fits (jtp 1502) (.int v) = true := by rw [tp1502]; rfl
theorem tp1503 : jtp 1503 = (.array .int) := by decide +kernel
theorem wi1503 {x : jCx} {ret : Option FieldType} {hh : List (Nat × Nat × Nat × Nat)} (hm : jMt x "<init>" ret hh) : jWr x "CodeLayoutModel$Written" 1503 := jWr_i hm fun C T N h => by cases h; exact ⟨rfl, rfl⟩
theorem nr1503 (v : Nat) : narrow (jtp 1503) (jrv v) = jrv v := by rw [tp1503]; exact jnr_a _ v
theorem fr1503 (v : Nat) : fits (jtp 1503) (jrv v) = true := by rw [tp1503]; exact jft_a _ v
theorem tp1504 : jtp 1504 = (.array .byte) := by decide +kernel
theorem wi1504 {x : jCx} {ret : Option FieldType} {hh : List (Nat × Nat × Nat × Nat)} (hm : jMt x "<init>" ret hh) : jWr x "CodeLayoutModel$Written" 1504 := jWr_i hm fun C T N h => by cases h; exact ⟨rfl, rfl⟩
theorem nr1504 (v : Nat) : narrow (jtp 1504) (jrv v) = jrv v := by rw [tp1504]; exact jnr_a _ v
theorem fr1504 (v : Nat) : fits (jtp 1504) (jrv v) = true := by rw [tp1504]; exact jft_a _ v
theorem tp1505 : jtp 1505 = (.array .boolean) := by decide +kernel
theorem wi1505 {x : jCx} {ret : Option FieldType} {hh : List (Nat × Nat × Nat × Nat)} (hm : jMt x "<init>" ret hh) : jWr x "CodeLayoutModel$Written" 1505 := jWr_i hm fun C T N h => by cases h; exact ⟨rfl, rfl⟩
theorem nr1505 (v : Nat) : narrow (jtp 1505) (jrv v) = jrv v := by rw [tp1505]; exact jnr_a _ v
theorem fr1505 (v : Nat) : fits (jtp 1505) (jrv v) = true := by rw [tp1505]; exact jft_a _ v
theorem tp1506 : jtp 1506 = (.array .boolean) := by decide +kernel
theorem wi1506 {x : jCx} {ret : Option FieldType} {hh : List (Nat × Nat × Nat × Nat)} (hm : jMt x "<init>" ret hh) : jWr x "CodeLayoutModel$Written" 1506 := jWr_i hm fun C T N h => by cases h; exact ⟨rfl, rfl⟩
theorem nr1506 (v : Nat) : narrow (jtp 1506) (jrv v) = jrv v := by rw [tp1506]; exact jnr_a _ v
theorem fr1506 (v : Nat) : fits (jtp 1506) (jrv v) = true := by rw [tp1506]; exact jft_a _ v
theorem tp1507 : jtp 1507 = (.array .int) := by decide +kernel
theorem wi1507 {x : jCx} {ret : Option FieldType} {hh : List (Nat × Nat × Nat × Nat)} (hm : jMt x "<init>" ret hh) : jWr x "CodeLayoutModel$Written" 1507 := jWr_i hm fun C T N h => by cases h; exact ⟨rfl, rfl⟩
theorem nr1507 (v : Nat) : narrow (jtp 1507) (jrv v) = jrv v := by rw [tp1507]; exact jnr_a _ v
theorem fr1507 (v : Nat) : fits (jtp 1507) (jrv v) = true := by rw [tp1507]; exact jft_a _ v
theorem tp1508 : jtp 1508 = .int := by decide +kernel
theorem wf1508 {x : jCx} {own : String} : jWr x own 1508 := jWr_n fun C T N h => by cases h; rfl
theorem ni1508 (v : Int32) : narrow (jtp 1508) (.int v) = .int v := by rw [tp1508]; rfl
theorem fi1508 (v : Int32) : fits (jtp 1508) (.int v) = true := by rw [tp1508]; rfl
theorem tp1509 : jtp 1509 = .int := by decide +kernel
theorem wf1509 {x : jCx} {own : String} : jWr x own 1509 := jWr_n fun C T N h => by cases h; rfl
theorem ni1509 (v : Int32) : narrow (jtp 1509) (.int v) = .int v := by rw [tp1509]; rfl
theorem fi1509 (v : Int32) : fits (jtp 1509) (.int v) = true := by rw [tp1509]; rfl
theorem tp1510 : jtp 1510 = .int := by decide +kernel
theorem wf1510 {x : jCx} {own : String} : jWr x own 1510 := jWr_n fun C T N h => by cases h; rfl
theorem ni1510 (v : Int32) : narrow (jtp 1510) (.int v) = .int v := by rw [tp1510]; rfl
theorem fi1510 (v : Int32) : fits (jtp 1510) (.int v) = true := by rw [tp1510]; rfl
theorem tp1511 : jtp 1511 = .int := by decide +kernel
theorem wf1511 {x : jCx} {own : String} : jWr x own 1511 := jWr_n fun C T N h => by cases h; rfl
theorem ni1511 (v : Int32) : narrow (jtp 1511) (.int v) = .int v := by rw [tp1511]; rfl
theorem fi1511 (v : Int32) : fits (jtp 1511) (.int v) = true := by rw [tp1511]; rfl
theorem tp1512 : jtp 1512 = .int := by decide +kernel
theorem wf1512 {x : jCx} {own : String} : jWr x own 1512 := jWr_n fun C T N h => by cases h; rfl
theorem ni1512 (v : Int32) : narrow (jtp 1512) (.int v) = .int v := by rw [tp1512]; rfl
theorem fi1512 (v : Int32) : fits (jtp 1512) (.int v) = true := by rw [tp1512]; rfl
theorem tp1513 : jtp 1513 = .int := by decide +kernel
theorem wf1513 {x : jCx} {own : String} : jWr x own 1513 := jWr_n fun C T N h => by cases h; rfl
theorem ni1513 (v : Int32) : narrow (jtp 1513) (.int v) = .int v := by rw [tp1513]; rfl
theorem fi1513 (v : Int32) : fits (jtp 1513) (.int v) = true := by rw [tp1513]; rfl
theorem tp1600 : jtp 1600 = (.object "CodeLayoutModel") := by decide +kernel
theorem wi1600 {x : jCx} {ret : Option FieldType} {hh : List (Nat × Nat × Nat × Nat)} (hm : jMt x "<init>" ret hh) : jWr x "CodeLayoutModel$Run" 1600 := jWr_i hm fun C T N h => by cases h; exact ⟨rfl, rfl⟩
theorem nr1600 (v : Nat) : narrow (jtp 1600) (jrv v) = jrv v := by rw [tp1600]; exact jnr_o _ v
theorem fr1600 (v : Nat) : fits (jtp 1600) (jrv v) = true := by rw [tp1600]; exact jft_o _ v
theorem tp1601 : jtp 1601 = .int := by decide +kernel
theorem wi1601 {x : jCx} {ret : Option FieldType} {hh : List (Nat × Nat × Nat × Nat)} (hm : jMt x "<init>" ret hh) : jWr x "CodeLayoutModel$Run" 1601 := jWr_i hm fun C T N h => by cases h; exact ⟨rfl, rfl⟩
theorem ni1601 (v : Int32) : narrow (jtp 1601) (.int v) = .int v := by rw [tp1601]; rfl
theorem fi1601 (v : Int32) : fits (jtp 1601) (.int v) = true := by rw [tp1601]; rfl
theorem tp1602 : jtp 1602 = .boolean := by decide +kernel
theorem wf1602 {x : jCx} {own : String} : jWr x own 1602 := jWr_n fun C T N h => by cases h; rfl
theorem nz1602 {v : Int32} (h : i2z v = v) : narrow (jtp 1602) (.int v) = .int v := by rw [tp1602]; exact jzn h
theorem fz1602 {v : Int32} (h : i2z v = v) : fits (jtp 1602) (.int v) = true := by rw [tp1602]; exact jzf h
theorem tp1603 : jtp 1603 = (.array .long) := by decide +kernel
theorem wi1603 {x : jCx} {ret : Option FieldType} {hh : List (Nat × Nat × Nat × Nat)} (hm : jMt x "<init>" ret hh) : jWr x "CodeLayoutModel$Run" 1603 := jWr_i hm fun C T N h => by cases h; exact ⟨rfl, rfl⟩
theorem nr1603 (v : Nat) : narrow (jtp 1603) (jrv v) = jrv v := by rw [tp1603]; exact jnr_a _ v
theorem fr1603 (v : Nat) : fits (jtp 1603) (jrv v) = true := by rw [tp1603]; exact jft_a _ v
theorem tp1604 : jtp 1604 = (.array .byte) := by decide +kernel
theorem wi1604 {x : jCx} {ret : Option FieldType} {hh : List (Nat × Nat × Nat × Nat)} (hm : jMt x "<init>" ret hh) : jWr x "CodeLayoutModel$Run" 1604 := jWr_i hm fun C T N h => by cases h; exact ⟨rfl, rfl⟩
theorem nr1604 (v : Nat) : narrow (jtp 1604) (jrv v) = jrv v := by rw [tp1604]; exact jnr_a _ v
theorem fr1604 (v : Nat) : fits (jtp 1604) (jrv v) = true := by rw [tp1604]; exact jft_a _ v
theorem tp1605 : jtp 1605 = (.array .int) := by decide +kernel
theorem wi1605 {x : jCx} {ret : Option FieldType} {hh : List (Nat × Nat × Nat × Nat)} (hm : jMt x "<init>" ret hh) : jWr x "CodeLayoutModel$Run" 1605 := jWr_i hm fun C T N h => by cases h; exact ⟨rfl, rfl⟩
theorem nr1605 (v : Nat) : narrow (jtp 1605) (jrv v) = jrv v := by rw [tp1605]; exact jnr_a _ v
theorem fr1605 (v : Nat) : fits (jtp 1605) (jrv v) = true := by rw [tp1605]; exact jft_a _ v
theorem tp1606 : jtp 1606 = .boolean := by decide +kernel
theorem wf1606 {x : jCx} {own : String} : jWr x own 1606 := jWr_n fun C T N h => by cases h; rfl
theorem nz1606 {v : Int32} (h : i2z v = v) : narrow (jtp 1606) (.int v) = .int v := by rw [tp1606]; exact jzn h
theorem fz1606 {v : Int32} (h : i2z v = v) : fits (jtp 1606) (.int v) = true := by rw [tp1606]; exact jzf h
theorem tp1607 : jtp 1607 = .boolean := by decide +kernel
theorem wf1607 {x : jCx} {own : String} : jWr x own 1607 := jWr_n fun C T N h => by cases h; rfl
theorem nz1607 {v : Int32} (h : i2z v = v) : narrow (jtp 1607) (.int v) = .int v := by rw [tp1607]; exact jzn h
theorem fz1607 {v : Int32} (h : i2z v = v) : fits (jtp 1607) (.int v) = true := by rw [tp1607]; exact jzf h
theorem tp1608 : jtp 1608 = .boolean := by decide +kernel
theorem wf1608 {x : jCx} {own : String} : jWr x own 1608 := jWr_n fun C T N h => by cases h; rfl
theorem nz1608 {v : Int32} (h : i2z v = v) : narrow (jtp 1608) (.int v) = .int v := by rw [tp1608]; exact jzn h
theorem fz1608 {v : Int32} (h : i2z v = v) : fits (jtp 1608) (.int v) = true := by rw [tp1608]; exact jzf h
theorem tp1609 : jtp 1609 = .boolean := by decide +kernel
theorem wf1609 {x : jCx} {own : String} : jWr x own 1609 := jWr_n fun C T N h => by cases h; rfl
theorem nz1609 {v : Int32} (h : i2z v = v) : narrow (jtp 1609) (.int v) = .int v := by rw [tp1609]; exact jzn h
theorem fz1609 {v : Int32} (h : i2z v = v) : fits (jtp 1609) (.int v) = true := by rw [tp1609]; exact jzf h
theorem tp1610 : jtp 1610 = (.array .byte) := by decide +kernel
theorem wi1610 {x : jCx} {ret : Option FieldType} {hh : List (Nat × Nat × Nat × Nat)} (hm : jMt x "<init>" ret hh) : jWr x "CodeLayoutModel$Run" 1610 := jWr_i hm fun C T N h => by cases h; exact ⟨rfl, rfl⟩
theorem nr1610 (v : Nat) : narrow (jtp 1610) (jrv v) = jrv v := by rw [tp1610]; exact jnr_a _ v
theorem fr1610 (v : Nat) : fits (jtp 1610) (jrv v) = true := by rw [tp1610]; exact jft_a _ v
theorem tp1611 : jtp 1611 = (.array .byte) := by decide +kernel
theorem wi1611 {x : jCx} {ret : Option FieldType} {hh : List (Nat × Nat × Nat × Nat)} (hm : jMt x "<init>" ret hh) : jWr x "CodeLayoutModel$Run" 1611 := jWr_i hm fun C T N h => by cases h; exact ⟨rfl, rfl⟩
theorem nr1611 (v : Nat) : narrow (jtp 1611) (jrv v) = jrv v := by rw [tp1611]; exact jnr_a _ v
theorem fr1611 (v : Nat) : fits (jtp 1611) (jrv v) = true := by rw [tp1611]; exact jft_a _ v
theorem tp1612 : jtp 1612 = (.array .int) := by decide +kernel
theorem wi1612 {x : jCx} {ret : Option FieldType} {hh : List (Nat × Nat × Nat × Nat)} (hm : jMt x "<init>" ret hh) : jWr x "CodeLayoutModel$Run" 1612 := jWr_i hm fun C T N h => by cases h; exact ⟨rfl, rfl⟩
theorem nr1612 (v : Nat) : narrow (jtp 1612) (jrv v) = jrv v := by rw [tp1612]; exact jnr_a _ v
theorem fr1612 (v : Nat) : fits (jtp 1612) (jrv v) = true := by rw [tp1612]; exact jft_a _ v
theorem tp1613 : jtp 1613 = (.array .int) := by decide +kernel
theorem wi1613 {x : jCx} {ret : Option FieldType} {hh : List (Nat × Nat × Nat × Nat)} (hm : jMt x "<init>" ret hh) : jWr x "CodeLayoutModel$Run" 1613 := jWr_i hm fun C T N h => by cases h; exact ⟨rfl, rfl⟩
theorem nr1613 (v : Nat) : narrow (jtp 1613) (jrv v) = jrv v := by rw [tp1613]; exact jnr_a _ v
theorem fr1613 (v : Nat) : fits (jtp 1613) (jrv v) = true := by rw [tp1613]; exact jft_a _ v
theorem tp1614 : jtp 1614 = .int := by decide +kernel
theorem wf1614 {x : jCx} {own : String} : jWr x own 1614 := jWr_n fun C T N h => by cases h; rfl
theorem ni1614 (v : Int32) : narrow (jtp 1614) (.int v) = .int v := by rw [tp1614]; rfl
theorem fi1614 (v : Int32) : fits (jtp 1614) (.int v) = true := by rw [tp1614]; rfl
theorem tp1615 : jtp 1615 = .int := by decide +kernel
theorem wf1615 {x : jCx} {own : String} : jWr x own 1615 := jWr_n fun C T N h => by cases h; rfl
theorem ni1615 (v : Int32) : narrow (jtp 1615) (.int v) = .int v := by rw [tp1615]; rfl
theorem fi1615 (v : Int32) : fits (jtp 1615) (.int v) = true := by rw [tp1615]; rfl
theorem tp1616 : jtp 1616 = .int := by decide +kernel
theorem wf1616 {x : jCx} {own : String} : jWr x own 1616 := jWr_n fun C T N h => by cases h; rfl
theorem ni1616 (v : Int32) : narrow (jtp 1616) (.int v) = .int v := by rw [tp1616]; rfl
theorem fi1616 (v : Int32) : fits (jtp 1616) (.int v) = true := by rw [tp1616]; rfl
theorem tp1617 : jtp 1617 = .int := by decide +kernel
theorem wf1617 {x : jCx} {own : String} : jWr x own 1617 := jWr_n fun C T N h => by cases h; rfl
theorem ni1617 (v : Int32) : narrow (jtp 1617) (.int v) = .int v := by rw [tp1617]; rfl
theorem fi1617 (v : Int32) : fits (jtp 1617) (.int v) = true := by rw [tp1617]; rfl
theorem tp1618 : jtp 1618 = .int := by decide +kernel
theorem wf1618 {x : jCx} {own : String} : jWr x own 1618 := jWr_n fun C T N h => by cases h; rfl
theorem ni1618 (v : Int32) : narrow (jtp 1618) (.int v) = .int v := by rw [tp1618]; rfl
theorem fi1618 (v : Int32) : fits (jtp 1618) (.int v) = true := by rw [tp1618]; rfl
theorem tp1619 : jtp 1619 = .int := by decide +kernel
theorem wf1619 {x : jCx} {own : String} : jWr x own 1619 := jWr_n fun C T N h => by cases h; rfl
theorem ni1619 (v : Int32) : narrow (jtp 1619) (.int v) = .int v := by rw [tp1619]; rfl
theorem fi1619 (v : Int32) : fits (jtp 1619) (.int v) = true := by rw [tp1619]; rfl
theorem tp1620 : jtp 1620 = .int := by decide +kernel
theorem wf1620 {x : jCx} {own : String} : jWr x own 1620 := jWr_n fun C T N h => by cases h; rfl
theorem ni1620 (v : Int32) : narrow (jtp 1620) (.int v) = .int v := by rw [tp1620]; rfl
theorem fi1620 (v : Int32) : fits (jtp 1620) (.int v) = true := by rw [tp1620]; rfl
theorem tp1621 : jtp 1621 = (.array .long) := by decide +kernel
theorem wi1621 {x : jCx} {ret : Option FieldType} {hh : List (Nat × Nat × Nat × Nat)} (hm : jMt x "<init>" ret hh) : jWr x "CodeLayoutModel$Run" 1621 := jWr_i hm fun C T N h => by cases h; exact ⟨rfl, rfl⟩
theorem nr1621 (v : Nat) : narrow (jtp 1621) (jrv v) = jrv v := by rw [tp1621]; exact jnr_a _ v
theorem fr1621 (v : Nat) : fits (jtp 1621) (jrv v) = true := by rw [tp1621]; exact jft_a _ v
theorem tp1622 : jtp 1622 = (.array .byte) := by decide +kernel
theorem wi1622 {x : jCx} {ret : Option FieldType} {hh : List (Nat × Nat × Nat × Nat)} (hm : jMt x "<init>" ret hh) : jWr x "CodeLayoutModel$Run" 1622 := jWr_i hm fun C T N h => by cases h; exact ⟨rfl, rfl⟩
theorem nr1622 (v : Nat) : narrow (jtp 1622) (jrv v) = jrv v := by rw [tp1622]; exact jnr_a _ v
theorem fr1622 (v : Nat) : fits (jtp 1622) (jrv v) = true := by rw [tp1622]; exact jft_a _ v
theorem tp1623 : jtp 1623 = .long := by decide +kernel
theorem wf1623 {x : jCx} {own : String} : jWr x own 1623 := jWr_n fun C T N h => by cases h; rfl
theorem nl1623 (v : Int64) : narrow (jtp 1623) (.long v) = .long v := by rw [tp1623]; rfl
theorem ff1623 (v : Int64) : fits (jtp 1623) (.long v) = true := by rw [tp1623]; rfl
theorem tp1800 : jtp 1800 = .int := by decide +kernel
theorem wf1800 {x : jCx} {own : String} : jWr x own 1800 := jWr_n fun C T N h => by cases h; rfl
theorem ni1800 (v : Int32) : narrow (jtp 1800) (.int v) = .int v := by rw [tp1800]; rfl
theorem fi1800 (v : Int32) : fits (jtp 1800) (.int v) = true := by rw [tp1800]; rfl
theorem tp1801 : jtp 1801 = (.array (.object "java/lang/Object")) := by decide +kernel
theorem wf1801 {x : jCx} {own : String} : jWr x own 1801 := jWr_n fun C T N h => by cases h; rfl
theorem nr1801 (v : Nat) : narrow (jtp 1801) (jrv v) = jrv v := by rw [tp1801]; exact jnr_a _ v
theorem fr1801 (v : Nat) : fits (jtp 1801) (jrv v) = true := by rw [tp1801]; exact jft_a _ v
theorem tp1802 : jtp 1802 = .int := by decide +kernel
theorem wf1802 {x : jCx} {own : String} : jWr x own 1802 := jWr_n fun C T N h => by cases h; rfl
theorem ni1802 (v : Int32) : narrow (jtp 1802) (.int v) = .int v := by rw [tp1802]; rfl
theorem fi1802 (v : Int32) : fits (jtp 1802) (.int v) = true := by rw [tp1802]; rfl
theorem flJ6_9 : jFL "java/util/ArrayList" 9 1801 := ⟨jok_18, by decide, fun C T N h => by cases h; exact Or.inl ⟨_, q626, Or.inl rfl⟩⟩
theorem flJ6_48 : jFL "java/util/ArrayList" 48 1802 := ⟨jok_18, by decide, fun C T N h => by cases h; exact Or.inl ⟨_, q627, Or.inl rfl⟩⟩
theorem flJ6_63 : jFL "java/util/ArrayList" 63 1800 := ⟨jok_18, by decide, fun C T N h => by cases h; exact Or.inl ⟨_, q629, Or.inr q630⟩⟩
theorem flX0_18 : jFL "CodeLayout" 18 100 := ⟨jok_1, by decide, fun C T N h => by cases h; exact Or.inl ⟨_, q642, Or.inl rfl⟩⟩
theorem flX0_22 : jFL "CodeLayout" 22 103 := ⟨jok_1, by decide, fun C T N h => by cases h; exact Or.inl ⟨_, q645, Or.inl rfl⟩⟩
theorem flX0_29 : jFL "CodeLayout" 29 104 := ⟨jok_1, by decide, fun C T N h => by cases h; exact Or.inl ⟨_, q646, Or.inl rfl⟩⟩
theorem flX0_33 : jFL "CodeLayout" 33 105 := ⟨jok_1, by decide, fun C T N h => by cases h; exact Or.inl ⟨_, q647, Or.inl rfl⟩⟩
theorem flX0_39 : jFL "CodeLayout" 39 108 := ⟨jok_1, by decide, fun C T N h => by cases h; exact Or.inl ⟨_, q650, Or.inl rfl⟩⟩
theorem flX0_43 : jFL "CodeLayout" 43 109 := ⟨jok_1, by decide, fun C T N h => by cases h; exact Or.inl ⟨_, q651, Or.inl rfl⟩⟩
theorem flX0_46 : jFL "CodeLayout" 46 110 := ⟨jok_1, by decide, fun C T N h => by cases h; exact Or.inl ⟨_, q652, Or.inl rfl⟩⟩
theorem flX0_51 : jFL "CodeLayout" 51 114 := ⟨jok_1, by decide, fun C T N h => by cases h; exact Or.inl ⟨_, q656, Or.inl rfl⟩⟩
theorem flX0_58 : jFL "CodeLayout" 58 116 := ⟨jok_1, by decide, fun C T N h => by cases h; exact Or.inl ⟨_, q658, Or.inl rfl⟩⟩
theorem flX0_62 : jFL "CodeLayout" 62 117 := ⟨jok_1, by decide, fun C T N h => by cases h; exact Or.inl ⟨_, q659, Or.inl rfl⟩⟩
theorem flX0_65 : jFL "CodeLayout" 65 118 := ⟨jok_1, by decide, fun C T N h => by cases h; exact Or.inl ⟨_, q660, Or.inl rfl⟩⟩
theorem flX0_71 : jFL "CodeLayout" 71 120 := ⟨jok_1, by decide, fun C T N h => by cases h; exact Or.inl ⟨_, q662, Or.inl rfl⟩⟩
theorem flX0_80 : jFL "CodeLayout" 80 121 := ⟨jok_1, by decide, fun C T N h => by cases h; exact Or.inl ⟨_, q663, Or.inl rfl⟩⟩
theorem flX0_84 : jFL "CodeLayout" 84 122 := ⟨jok_1, by decide, fun C T N h => by cases h; exact Or.inl ⟨_, q664, Or.inl rfl⟩⟩
theorem flX0_88 : jFL "CodeLayout" 88 101 := ⟨jok_1, by decide, fun C T N h => by cases h; exact Or.inl ⟨_, q643, Or.inl rfl⟩⟩
theorem flX0_91 : jFL "CodeLayout" 91 102 := ⟨jok_1, by decide, fun C T N h => by cases h; exact Or.inl ⟨_, q644, Or.inl rfl⟩⟩
theorem flX0_99 : jFL "CodeLayout" 99 202 := ⟨jok_2, by decide, fun C T N h => by cases h; exact Or.inl ⟨_, q505, Or.inl rfl⟩⟩
theorem flX0_103 : jFL "CodeLayout" 103 500 := ⟨jok_5, by decide, fun C T N h => by cases h; exact Or.inl ⟨_, q466, Or.inl rfl⟩⟩
theorem flX0_114 : jFL "CodeLayout" 114 501 := ⟨jok_5, by decide, fun C T N h => by cases h; exact Or.inl ⟨_, q469, Or.inl rfl⟩⟩
theorem flX0_128 : jFL "CodeLayout" 128 106 := ⟨jok_1, by decide, fun C T N h => by cases h; exact Or.inl ⟨_, q648, Or.inl rfl⟩⟩
theorem flX0_132 : jFL "CodeLayout" 132 107 := ⟨jok_1, by decide, fun C T N h => by cases h; exact Or.inl ⟨_, q649, Or.inl rfl⟩⟩
theorem flX0_138 : jFL "CodeLayout" 138 115 := ⟨jok_1, by decide, fun C T N h => by cases h; exact Or.inl ⟨_, q657, Or.inl rfl⟩⟩
theorem flX0_147 : jFL "CodeLayout" 147 119 := ⟨jok_1, by decide, fun C T N h => by cases h; exact Or.inl ⟨_, q661, Or.inl rfl⟩⟩
theorem flX0_171 : jFL "CodeLayout" 171 111 := ⟨jok_1, by decide, fun C T N h => by cases h; exact Or.inl ⟨_, q653, Or.inl rfl⟩⟩
theorem flX0_175 : jFL "CodeLayout" 175 112 := ⟨jok_1, by decide, fun C T N h => by cases h; exact Or.inl ⟨_, q654, Or.inl rfl⟩⟩
theorem flX0_179 : jFL "CodeLayout" 179 113 := ⟨jok_1, by decide, fun C T N h => by cases h; exact Or.inl ⟨_, q655, Or.inl rfl⟩⟩
theorem flX0_185 : jFL "CodeLayout" 185 1023 := ⟨jok_10, by decide, fun C T N h => by cases h; exact Or.inl ⟨_, q1489, Or.inl rfl⟩⟩
theorem flX0_188 : jFL "CodeLayout" 188 217 := ⟨jok_2, by decide, fun C T N h => by cases h; exact Or.inl ⟨_, q547, Or.inl rfl⟩⟩
theorem flX0_191 : jFL "CodeLayout" 191 203 := ⟨jok_2, by decide, fun C T N h => by cases h; exact Or.inl ⟨_, q509, Or.inl rfl⟩⟩
theorem flX0_210 : jFL "CodeLayout" 210 209 := ⟨jok_2, by decide, fun C T N h => by cases h; exact Or.inl ⟨_, q528, Or.inl rfl⟩⟩
theorem flX0_214 : jFL "CodeLayout" 214 600 := ⟨jok_6, by decide, fun C T N h => by cases h; exact Or.inl ⟨_, q487, Or.inl rfl⟩⟩
theorem flX0_238 : jFL "CodeLayout" 238 213 := ⟨jok_2, by decide, fun C T N h => by cases h; exact Or.inl ⟨_, q535, Or.inl rfl⟩⟩
theorem flX0_246 : jFL "CodeLayout" 246 214 := ⟨jok_2, by decide, fun C T N h => by cases h; exact Or.inl ⟨_, q539, Or.inl rfl⟩⟩
theorem flX0_255 : jFL "CodeLayout" 255 216 := ⟨jok_2, by decide, fun C T N h => by cases h; exact Or.inl ⟨_, q543, Or.inl rfl⟩⟩
theorem flX0_259 : jFL "CodeLayout" 259 803 := ⟨jok_8, by decide, fun C T N h => by cases h; exact Or.inl ⟨_, q1169, Or.inl rfl⟩⟩
theorem flX0_263 : jFL "CodeLayout" 263 201 := ⟨jok_2, by decide, fun C T N h => by cases h; exact Or.inl ⟨_, q501, Or.inl rfl⟩⟩
theorem flX0_276 : jFL "CodeLayout" 276 206 := ⟨jok_2, by decide, fun C T N h => by cases h; exact Or.inl ⟨_, q520, Or.inl rfl⟩⟩
theorem flX0_282 : jFL "CodeLayout" 282 208 := ⟨jok_2, by decide, fun C T N h => by cases h; exact Or.inl ⟨_, q526, Or.inl rfl⟩⟩
theorem flX0_304 : jFL "CodeLayout" 304 804 := ⟨jok_8, by decide, fun C T N h => by cases h; exact Or.inl ⟨_, q1172, Or.inl rfl⟩⟩
theorem flX0_307 : jFL "CodeLayout" 307 805 := ⟨jok_8, by decide, fun C T N h => by cases h; exact Or.inl ⟨_, q1174, Or.inl rfl⟩⟩
theorem flX0_314 : jFL "CodeLayout" 314 123 := ⟨jok_1, by decide, fun C T N h => by cases h; exact Or.inl ⟨_, q665, Or.inl rfl⟩⟩
theorem flX0_317 : jFL "CodeLayout" 317 919 := ⟨jok_9, by decide, fun C T N h => by cases h; exact Or.inl ⟨_, q1291, Or.inl rfl⟩⟩
theorem flX0_320 : jFL "CodeLayout" 320 912 := ⟨jok_9, by decide, fun C T N h => by cases h; exact Or.inl ⟨_, q1279, Or.inl rfl⟩⟩
theorem flX0_322 : jFL "CodeLayout" 322 915 := ⟨jok_9, by decide, fun C T N h => by cases h; exact Or.inl ⟨_, q1283, Or.inl rfl⟩⟩
theorem flX0_325 : jFL "CodeLayout" 325 916 := ⟨jok_9, by decide, fun C T N h => by cases h; exact Or.inl ⟨_, q1285, Or.inl rfl⟩⟩
theorem flX0_328 : jFL "CodeLayout" 328 917 := ⟨jok_9, by decide, fun C T N h => by cases h; exact Or.inl ⟨_, q1287, Or.inl rfl⟩⟩
theorem flX0_331 : jFL "CodeLayout" 331 918 := ⟨jok_9, by decide, fun C T N h => by cases h; exact Or.inl ⟨_, q1289, Or.inl rfl⟩⟩
theorem flX0_348 : jFL "CodeLayout" 348 300 := ⟨jok_3, by decide, fun C T N h => by cases h; exact Or.inl ⟨_, q343, Or.inl rfl⟩⟩
theorem flX0_358 : jFL "CodeLayout" 358 1015 := ⟨jok_10, by decide, fun C T N h => by cases h; exact Or.inl ⟨_, q1473, Or.inl rfl⟩⟩
theorem flX0_361 : jFL "CodeLayout" 361 1016 := ⟨jok_10, by decide, fun C T N h => by cases h; exact Or.inl ⟨_, q1475, Or.inl rfl⟩⟩
theorem flX0_364 : jFL "CodeLayout" 364 1010 := ⟨jok_10, by decide, fun C T N h => by cases h; exact Or.inl ⟨_, q1464, Or.inl rfl⟩⟩
theorem flX0_367 : jFL "CodeLayout" 367 1011 := ⟨jok_10, by decide, fun C T N h => by cases h; exact Or.inl ⟨_, q1466, Or.inl rfl⟩⟩
theorem flX0_370 : jFL "CodeLayout" 370 1012 := ⟨jok_10, by decide, fun C T N h => by cases h; exact Or.inl ⟨_, q1468, Or.inl rfl⟩⟩
theorem flX0_373 : jFL "CodeLayout" 373 1013 := ⟨jok_10, by decide, fun C T N h => by cases h; exact Or.inl ⟨_, q1470, Or.inl rfl⟩⟩
theorem flX0_376 : jFL "CodeLayout" 376 1017 := ⟨jok_10, by decide, fun C T N h => by cases h; exact Or.inl ⟨_, q1477, Or.inl rfl⟩⟩
theorem flX0_378 : jFL "CodeLayout" 378 1018 := ⟨jok_10, by decide, fun C T N h => by cases h; exact Or.inl ⟨_, q1479, Or.inl rfl⟩⟩
theorem flX0_381 : jFL "CodeLayout" 381 1019 := ⟨jok_10, by decide, fun C T N h => by cases h; exact Or.inl ⟨_, q1481, Or.inl rfl⟩⟩
theorem flX0_387 : jFL "CodeLayout" 387 1008 := ⟨jok_10, by decide, fun C T N h => by cases h; exact Or.inl ⟨_, q1460, Or.inl rfl⟩⟩
theorem flX0_390 : jFL "CodeLayout" 390 1007 := ⟨jok_10, by decide, fun C T N h => by cases h; exact Or.inl ⟨_, q1458, Or.inl rfl⟩⟩
theorem flX0_397 : jFL "CodeLayout" 397 1009 := ⟨jok_10, by decide, fun C T N h => by cases h; exact Or.inl ⟨_, q1462, Or.inl rfl⟩⟩
theorem flX0_403 : jFL "CodeLayout" 403 1020 := ⟨jok_10, by decide, fun C T N h => by cases h; exact Or.inl ⟨_, q1483, Or.inl rfl⟩⟩
theorem flX0_406 : jFL "CodeLayout" 406 1005 := ⟨jok_10, by decide, fun C T N h => by cases h; exact Or.inl ⟨_, q1455, Or.inl rfl⟩⟩
theorem flX0_429 : jFL "CodeLayout" 429 1021 := ⟨jok_10, by decide, fun C T N h => by cases h; exact Or.inl ⟨_, q1485, Or.inl rfl⟩⟩
theorem flX0_432 : jFL "CodeLayout" 432 1022 := ⟨jok_10, by decide, fun C T N h => by cases h; exact Or.inl ⟨_, q1487, Or.inl rfl⟩⟩
theorem flX1_10 : jFL "CodeLayout$Program" 10 200 := ⟨jok_2, by decide, fun C T N h => by cases h; exact Or.inl ⟨_, q497, Or.inl rfl⟩⟩
theorem flX1_21 : jFL "CodeLayout$Program" 21 201 := ⟨jok_2, by decide, fun C T N h => by cases h; exact Or.inl ⟨_, q498, Or.inl rfl⟩⟩
theorem flX1_28 : jFL "CodeLayout$Program" 28 202 := ⟨jok_2, by decide, fun C T N h => by cases h; exact Or.inl ⟨_, q503, Or.inl rfl⟩⟩
theorem flX1_32 : jFL "CodeLayout$Program" 32 204 := ⟨jok_2, by decide, fun C T N h => by cases h; exact Or.inl ⟨_, q511, Or.inl rfl⟩⟩
theorem flX1_36 : jFL "CodeLayout$Program" 36 205 := ⟨jok_2, by decide, fun C T N h => by cases h; exact Or.inl ⟨_, q514, Or.inl rfl⟩⟩
theorem flX1_39 : jFL "CodeLayout$Program" 39 206 := ⟨jok_2, by decide, fun C T N h => by cases h; exact Or.inl ⟨_, q517, Or.inl rfl⟩⟩
theorem flX1_42 : jFL "CodeLayout$Program" 42 207 := ⟨jok_2, by decide, fun C T N h => by cases h; exact Or.inl ⟨_, q521, Or.inl rfl⟩⟩
theorem flX1_45 : jFL "CodeLayout$Program" 45 208 := ⟨jok_2, by decide, fun C T N h => by cases h; exact Or.inl ⟨_, q524, Or.inl rfl⟩⟩
theorem flX1_52 : jFL "CodeLayout$Program" 52 209 := ⟨jok_2, by decide, fun C T N h => by cases h; exact Or.inl ⟨_, q527, Or.inl rfl⟩⟩
theorem flX1_56 : jFL "CodeLayout$Program" 56 210 := ⟨jok_2, by decide, fun C T N h => by cases h; exact Or.inl ⟨_, q529, Or.inl rfl⟩⟩
theorem flX1_59 : jFL "CodeLayout$Program" 59 211 := ⟨jok_2, by decide, fun C T N h => by cases h; exact Or.inl ⟨_, q531, Or.inl rfl⟩⟩
theorem flX1_62 : jFL "CodeLayout$Program" 62 212 := ⟨jok_2, by decide, fun C T N h => by cases h; exact Or.inl ⟨_, q532, Or.inl rfl⟩⟩
theorem flX1_65 : jFL "CodeLayout$Program" 65 213 := ⟨jok_2, by decide, fun C T N h => by cases h; exact Or.inl ⟨_, q533, Or.inl rfl⟩⟩
theorem flX1_68 : jFL "CodeLayout$Program" 68 214 := ⟨jok_2, by decide, fun C T N h => by cases h; exact Or.inl ⟨_, q536, Or.inl rfl⟩⟩
theorem flX1_71 : jFL "CodeLayout$Program" 71 215 := ⟨jok_2, by decide, fun C T N h => by cases h; exact Or.inl ⟨_, q540, Or.inl rfl⟩⟩
theorem flX1_74 : jFL "CodeLayout$Program" 74 216 := ⟨jok_2, by decide, fun C T N h => by cases h; exact Or.inl ⟨_, q542, Or.inl rfl⟩⟩
theorem flX1_77 : jFL "CodeLayout$Program" 77 408 := ⟨jok_4, by decide, fun C T N h => by cases h; exact Or.inl ⟨_, q378, Or.inl rfl⟩⟩
theorem flX1_90 : jFL "CodeLayout$Program" 90 601 := ⟨jok_6, by decide, fun C T N h => by cases h; exact Or.inl ⟨_, q490, Or.inl rfl⟩⟩
theorem flX1_94 : jFL "CodeLayout$Program" 94 301 := ⟨jok_3, by decide, fun C T N h => by cases h; exact Or.inl ⟨_, q345, Or.inl rfl⟩⟩
theorem flX1_97 : jFL "CodeLayout$Program" 97 300 := ⟨jok_3, by decide, fun C T N h => by cases h; exact Or.inl ⟨_, q342, Or.inl rfl⟩⟩
theorem flX1_100 : jFL "CodeLayout$Program" 100 403 := ⟨jok_4, by decide, fun C T N h => by cases h; exact Or.inl ⟨_, q366, Or.inl rfl⟩⟩
theorem flX1_103 : jFL "CodeLayout$Program" 103 411 := ⟨jok_4, by decide, fun C T N h => by cases h; exact Or.inl ⟨_, q387, Or.inl rfl⟩⟩
theorem flX1_121 : jFL "CodeLayout$Program" 121 410 := ⟨jok_4, by decide, fun C T N h => by cases h; exact Or.inl ⟨_, q384, Or.inl rfl⟩⟩
theorem flX1_124 : jFL "CodeLayout$Program" 124 203 := ⟨jok_2, by decide, fun C T N h => by cases h; exact Or.inl ⟨_, q508, Or.inl rfl⟩⟩
theorem flX1_166 : jFL "CodeLayout$Program" 166 600 := ⟨jok_6, by decide, fun C T N h => by cases h; exact Or.inl ⟨_, q485, Or.inl rfl⟩⟩
theorem flX1_203 : jFL "CodeLayout$Program" 203 417 := ⟨jok_4, by decide, fun C T N h => by cases h; exact Or.inl ⟨_, q400, Or.inl rfl⟩⟩
theorem flX1_216 : jFL "CodeLayout$Program" 216 414 := ⟨jok_4, by decide, fun C T N h => by cases h; exact Or.inl ⟨_, q394, Or.inl rfl⟩⟩
theorem flX1_219 : jFL "CodeLayout$Program" 219 413 := ⟨jok_4, by decide, fun C T N h => by cases h; exact Or.inl ⟨_, q391, Or.inl rfl⟩⟩
theorem flX1_248 : jFL "CodeLayout$Program" 248 404 := ⟨jok_4, by decide, fun C T N h => by cases h; exact Or.inl ⟨_, q370, Or.inl rfl⟩⟩
theorem flX1_261 : jFL "CodeLayout$Program" 261 217 := ⟨jok_2, by decide, fun C T N h => by cases h; exact Or.inl ⟨_, q548, Or.inl rfl⟩⟩
theorem flX10_9 : jFL "CodeLayoutModel$Written" 9 1501 := ⟨jok_15, by decide, fun C T N h => by cases h; exact Or.inl ⟨_, q2425, Or.inl rfl⟩⟩
theorem flX10_15 : jFL "CodeLayoutModel$Written" 15 1503 := ⟨jok_15, by decide, fun C T N h => by cases h; exact Or.inl ⟨_, q2429, Or.inl rfl⟩⟩
theorem flX10_18 : jFL "CodeLayoutModel$Written" 18 1504 := ⟨jok_15, by decide, fun C T N h => by cases h; exact Or.inl ⟨_, q2431, Or.inl rfl⟩⟩
theorem flX10_22 : jFL "CodeLayoutModel$Written" 22 1505 := ⟨jok_15, by decide, fun C T N h => by cases h; exact Or.inl ⟨_, q2432, Or.inl rfl⟩⟩
theorem flX10_26 : jFL "CodeLayoutModel$Written" 26 1506 := ⟨jok_15, by decide, fun C T N h => by cases h; exact Or.inl ⟨_, q2433, Or.inl rfl⟩⟩
theorem flX10_29 : jFL "CodeLayoutModel$Written" 29 1507 := ⟨jok_15, by decide, fun C T N h => by cases h; exact Or.inl ⟨_, q2434, Or.inl rfl⟩⟩
theorem flX10_32 : jFL "CodeLayoutModel$Written" 32 1500 := ⟨jok_15, by decide, fun C T N h => by cases h; exact Or.inl ⟨_, q2424, Or.inl rfl⟩⟩
theorem flX10_36 : jFL "CodeLayoutModel$Written" 36 1510 := ⟨jok_15, by decide, fun C T N h => by cases h; exact Or.inl ⟨_, q2440, Or.inl rfl⟩⟩
theorem flX10_40 : jFL "CodeLayoutModel$Written" 40 1511 := ⟨jok_15, by decide, fun C T N h => by cases h; exact Or.inl ⟨_, q2442, Or.inl rfl⟩⟩
theorem flX10_43 : jFL "CodeLayoutModel$Written" 43 1512 := ⟨jok_15, by decide, fun C T N h => by cases h; exact Or.inl ⟨_, q2444, Or.inl rfl⟩⟩
theorem flX10_46 : jFL "CodeLayoutModel$Written" 46 1513 := ⟨jok_15, by decide, fun C T N h => by cases h; exact Or.inl ⟨_, q2446, Or.inl rfl⟩⟩
theorem flX10_49 : jFL "CodeLayoutModel$Written" 49 1312 := ⟨jok_13, by decide, fun C T N h => by cases h; exact Or.inr ⟨_, q2594⟩⟩
theorem flX10_52 : jFL "CodeLayoutModel$Written" 52 1502 := ⟨jok_15, by decide, fun C T N h => by cases h; exact Or.inl ⟨_, q2427, Or.inl rfl⟩⟩
theorem flX10_58 : jFL "CodeLayoutModel$Written" 58 1325 := ⟨jok_13, by decide, fun C T N h => by cases h; exact Or.inr ⟨_, q2621⟩⟩
theorem flX10_61 : jFL "CodeLayoutModel$Written" 61 1326 := ⟨jok_13, by decide, fun C T N h => by cases h; exact Or.inr ⟨_, q2623⟩⟩
theorem flX10_64 : jFL "CodeLayoutModel$Written" 64 1323 := ⟨jok_13, by decide, fun C T N h => by cases h; exact Or.inr ⟨_, q2617⟩⟩
theorem flX10_67 : jFL "CodeLayoutModel$Written" 67 1313 := ⟨jok_13, by decide, fun C T N h => by cases h; exact Or.inr ⟨_, q2597⟩⟩
theorem flX10_86 : jFL "CodeLayoutModel$Written" 86 1315 := ⟨jok_13, by decide, fun C T N h => by cases h; exact Or.inr ⟨_, q2601⟩⟩
theorem flX10_96 : jFL "CodeLayoutModel$Written" 96 1322 := ⟨jok_13, by decide, fun C T N h => by cases h; exact Or.inr ⟨_, q2614⟩⟩
theorem flX10_109 : jFL "CodeLayoutModel$Written" 109 1317 := ⟨jok_13, by decide, fun C T N h => by cases h; exact Or.inr ⟨_, q2608⟩⟩
theorem flX10_116 : jFL "CodeLayoutModel$Written" 116 1509 := ⟨jok_15, by decide, fun C T N h => by cases h; exact Or.inl ⟨_, q2438, Or.inl rfl⟩⟩
theorem flX10_120 : jFL "CodeLayoutModel$Written" 120 1316 := ⟨jok_13, by decide, fun C T N h => by cases h; exact Or.inr ⟨_, q2604⟩⟩
theorem flX10_131 : jFL "CodeLayoutModel$Written" 131 1305 := ⟨jok_13, by decide, fun C T N h => by cases h; exact Or.inr ⟨_, q2585⟩⟩
theorem flX11_9 : jFL "CodeLayoutModel$Run" 9 1603 := ⟨jok_16, by decide, fun C T N h => by cases h; exact Or.inl ⟨_, q2489, Or.inl rfl⟩⟩
theorem flX11_15 : jFL "CodeLayoutModel$Run" 15 1604 := ⟨jok_16, by decide, fun C T N h => by cases h; exact Or.inl ⟨_, q2491, Or.inl rfl⟩⟩
theorem flX11_19 : jFL "CodeLayoutModel$Run" 19 1605 := ⟨jok_16, by decide, fun C T N h => by cases h; exact Or.inl ⟨_, q2493, Or.inl rfl⟩⟩
theorem flX11_24 : jFL "CodeLayoutModel$Run" 24 1610 := ⟨jok_16, by decide, fun C T N h => by cases h; exact Or.inl ⟨_, q2503, Or.inl rfl⟩⟩
theorem flX11_27 : jFL "CodeLayoutModel$Run" 27 1611 := ⟨jok_16, by decide, fun C T N h => by cases h; exact Or.inl ⟨_, q2505, Or.inl rfl⟩⟩
theorem flX11_30 : jFL "CodeLayoutModel$Run" 30 1612 := ⟨jok_16, by decide, fun C T N h => by cases h; exact Or.inl ⟨_, q2507, Or.inl rfl⟩⟩
theorem flX11_33 : jFL "CodeLayoutModel$Run" 33 1613 := ⟨jok_16, by decide, fun C T N h => by cases h; exact Or.inl ⟨_, q2509, Or.inl rfl⟩⟩
theorem flX11_36 : jFL "CodeLayoutModel$Run" 36 1621 := ⟨jok_16, by decide, fun C T N h => by cases h; exact Or.inl ⟨_, q2523, Or.inl rfl⟩⟩
theorem flX11_39 : jFL "CodeLayoutModel$Run" 39 1622 := ⟨jok_16, by decide, fun C T N h => by cases h; exact Or.inl ⟨_, q2525, Or.inl rfl⟩⟩
theorem flX11_42 : jFL "CodeLayoutModel$Run" 42 1600 := ⟨jok_16, by decide, fun C T N h => by cases h; exact Or.inl ⟨_, q2485, Or.inl rfl⟩⟩
theorem flX11_46 : jFL "CodeLayoutModel$Run" 46 1601 := ⟨jok_16, by decide, fun C T N h => by cases h; exact Or.inl ⟨_, q2486, Or.inl rfl⟩⟩
theorem flX11_56 : jFL "CodeLayoutModel$Run" 56 1606 := ⟨jok_16, by decide, fun C T N h => by cases h; exact Or.inl ⟨_, q2495, Or.inl rfl⟩⟩
theorem flX11_59 : jFL "CodeLayoutModel$Run" 59 1607 := ⟨jok_16, by decide, fun C T N h => by cases h; exact Or.inl ⟨_, q2497, Or.inl rfl⟩⟩
theorem flX11_62 : jFL "CodeLayoutModel$Run" 62 1608 := ⟨jok_16, by decide, fun C T N h => by cases h; exact Or.inl ⟨_, q2499, Or.inl rfl⟩⟩
theorem flX11_65 : jFL "CodeLayoutModel$Run" 65 1609 := ⟨jok_16, by decide, fun C T N h => by cases h; exact Or.inl ⟨_, q2501, Or.inl rfl⟩⟩
theorem flX11_68 : jFL "CodeLayoutModel$Run" 68 1309 := ⟨jok_13, by decide, fun C T N h => by cases h; exact Or.inr ⟨_, q2589⟩⟩
theorem flX11_71 : jFL "CodeLayoutModel$Run" 71 1303 := ⟨jok_13, by decide, fun C T N h => by cases h; exact Or.inr ⟨_, q2581⟩⟩
theorem flX11_77 : jFL "CodeLayoutModel$Run" 77 1614 := ⟨jok_16, by decide, fun C T N h => by cases h; exact Or.inl ⟨_, q2511, Or.inl rfl⟩⟩
theorem flX11_80 : jFL "CodeLayoutModel$Run" 80 1615 := ⟨jok_16, by decide, fun C T N h => by cases h; exact Or.inl ⟨_, q2513, Or.inl rfl⟩⟩
theorem flX11_83 : jFL "CodeLayoutModel$Run" 83 1616 := ⟨jok_16, by decide, fun C T N h => by cases h; exact Or.inl ⟨_, q2514, Or.inl rfl⟩⟩
theorem flX11_86 : jFL "CodeLayoutModel$Run" 86 1617 := ⟨jok_16, by decide, fun C T N h => by cases h; exact Or.inl ⟨_, q2515, Or.inl rfl⟩⟩
theorem flX11_89 : jFL "CodeLayoutModel$Run" 89 1619 := ⟨jok_16, by decide, fun C T N h => by cases h; exact Or.inl ⟨_, q2519, Or.inl rfl⟩⟩
theorem flX11_92 : jFL "CodeLayoutModel$Run" 92 1620 := ⟨jok_16, by decide, fun C T N h => by cases h; exact Or.inl ⟨_, q2521, Or.inl rfl⟩⟩
theorem flX11_95 : jFL "CodeLayoutModel$Run" 95 1305 := ⟨jok_13, by decide, fun C T N h => by cases h; exact Or.inr ⟨_, q2584⟩⟩
theorem flX11_107 : jFL "CodeLayoutModel$Run" 107 1623 := ⟨jok_16, by decide, fun C T N h => by cases h; exact Or.inl ⟨_, q2527, Or.inl rfl⟩⟩
theorem flX11_115 : jFL "CodeLayoutModel$Run" 115 1618 := ⟨jok_16, by decide, fun C T N h => by cases h; exact Or.inl ⟨_, q2517, Or.inl rfl⟩⟩
theorem flX11_121 : jFL "CodeLayoutModel$Run" 121 1403 := ⟨jok_14, by decide, fun C T N h => by cases h; exact Or.inl ⟨_, q2349, Or.inl rfl⟩⟩
theorem flX11_131 : jFL "CodeLayoutModel$Run" 131 1415 := ⟨jok_14, by decide, fun C T N h => by cases h; exact Or.inl ⟨_, q2374, Or.inl rfl⟩⟩
theorem flX11_133 : jFL "CodeLayoutModel$Run" 133 1412 := ⟨jok_14, by decide, fun C T N h => by cases h; exact Or.inl ⟨_, q2366, Or.inl rfl⟩⟩
theorem flX11_136 : jFL "CodeLayoutModel$Run" 136 1414 := ⟨jok_14, by decide, fun C T N h => by cases h; exact Or.inl ⟨_, q2372, Or.inl rfl⟩⟩
theorem flX11_149 : jFL "CodeLayoutModel$Run" 149 1413 := ⟨jok_14, by decide, fun C T N h => by cases h; exact Or.inl ⟨_, q2369, Or.inl rfl⟩⟩
theorem flX11_156 : jFL "CodeLayoutModel$Run" 156 1317 := ⟨jok_13, by decide, fun C T N h => by cases h; exact Or.inr ⟨_, q2607⟩⟩
theorem flX11_159 : jFL "CodeLayoutModel$Run" 159 1313 := ⟨jok_13, by decide, fun C T N h => by cases h; exact Or.inr ⟨_, q2596⟩⟩
theorem flX11_165 : jFL "CodeLayoutModel$Run" 165 1402 := ⟨jok_14, by decide, fun C T N h => by cases h; exact Or.inl ⟨_, q2346, Or.inl rfl⟩⟩
theorem flX11_168 : jFL "CodeLayoutModel$Run" 168 1408 := ⟨jok_14, by decide, fun C T N h => by cases h; exact Or.inl ⟨_, q2360, Or.inl rfl⟩⟩
theorem flX11_171 : jFL "CodeLayoutModel$Run" 171 1409 := ⟨jok_14, by decide, fun C T N h => by cases h; exact Or.inl ⟨_, q2362, Or.inl rfl⟩⟩
theorem flX11_174 : jFL "CodeLayoutModel$Run" 174 1407 := ⟨jok_14, by decide, fun C T N h => by cases h; exact Or.inl ⟨_, q2358, Or.inl rfl⟩⟩
theorem flX11_177 : jFL "CodeLayoutModel$Run" 177 1406 := ⟨jok_14, by decide, fun C T N h => by cases h; exact Or.inl ⟨_, q2356, Or.inl rfl⟩⟩
theorem flX11_180 : jFL "CodeLayoutModel$Run" 180 1350 := ⟨jok_13, by decide, fun C T N h => by cases h; exact Or.inr ⟨_, q2648⟩⟩
theorem flX11_184 : jFL "CodeLayoutModel$Run" 184 1508 := ⟨jok_15, by decide, fun C T N h => by cases h; exact Or.inl ⟨_, q2436, Or.inl rfl⟩⟩
theorem flX11_189 : jFL "CodeLayoutModel$Run" 189 1310 := ⟨jok_13, by decide, fun C T N h => by cases h; exact Or.inr ⟨_, q2591⟩⟩
theorem flX11_200 : jFL "CodeLayoutModel$Run" 200 1352 := ⟨jok_13, by decide, fun C T N h => by cases h; exact Or.inr ⟨_, q2650⟩⟩
theorem flX11_234 : jFL "CodeLayoutModel$Run" 234 1354 := ⟨jok_13, by decide, fun C T N h => by cases h; exact Or.inr ⟨_, q2654⟩⟩
theorem flX11_259 : jFL "CodeLayoutModel$Run" 259 1322 := ⟨jok_13, by decide, fun C T N h => by cases h; exact Or.inr ⟨_, q2615⟩⟩
theorem flX11_262 : jFL "CodeLayoutModel$Run" 262 1323 := ⟨jok_13, by decide, fun C T N h => by cases h; exact Or.inr ⟨_, q2618⟩⟩
theorem flX11_272 : jFL "CodeLayoutModel$Run" 272 1315 := ⟨jok_13, by decide, fun C T N h => by cases h; exact Or.inr ⟨_, q2602⟩⟩
theorem flX11_336 : jFL "CodeLayoutModel$Run" 336 1316 := ⟨jok_13, by decide, fun C T N h => by cases h; exact Or.inr ⟨_, q2605⟩⟩
theorem flX13_7 : jFL "CodeLayout$Ordering" 7 803 := ⟨jok_8, by decide, fun C T N h => by cases h; exact Or.inl ⟨_, q1168, Or.inl rfl⟩⟩
theorem flX13_13 : jFL "CodeLayout$Ordering" 13 804 := ⟨jok_8, by decide, fun C T N h => by cases h; exact Or.inl ⟨_, q1170, Or.inl rfl⟩⟩
theorem flX13_17 : jFL "CodeLayout$Ordering" 17 806 := ⟨jok_8, by decide, fun C T N h => by cases h; exact Or.inl ⟨_, q1175, Or.inl rfl⟩⟩
theorem flX13_24 : jFL "CodeLayout$Ordering" 24 807 := ⟨jok_8, by decide, fun C T N h => by cases h; exact Or.inl ⟨_, q1176, Or.inl rfl⟩⟩
theorem flX13_28 : jFL "CodeLayout$Ordering" 28 808 := ⟨jok_8, by decide, fun C T N h => by cases h; exact Or.inl ⟨_, q1177, Or.inl rfl⟩⟩
theorem flX13_31 : jFL "CodeLayout$Ordering" 31 809 := ⟨jok_8, by decide, fun C T N h => by cases h; exact Or.inl ⟨_, q1178, Or.inl rfl⟩⟩
theorem flX13_34 : jFL "CodeLayout$Ordering" 34 810 := ⟨jok_8, by decide, fun C T N h => by cases h; exact Or.inl ⟨_, q1179, Or.inl rfl⟩⟩
theorem flX13_37 : jFL "CodeLayout$Ordering" 37 811 := ⟨jok_8, by decide, fun C T N h => by cases h; exact Or.inl ⟨_, q1180, Or.inl rfl⟩⟩
theorem flX13_40 : jFL "CodeLayout$Ordering" 40 812 := ⟨jok_8, by decide, fun C T N h => by cases h; exact Or.inl ⟨_, q1181, Or.inl rfl⟩⟩
theorem flX13_43 : jFL "CodeLayout$Ordering" 43 813 := ⟨jok_8, by decide, fun C T N h => by cases h; exact Or.inl ⟨_, q1182, Or.inl rfl⟩⟩
theorem flX13_46 : jFL "CodeLayout$Ordering" 46 814 := ⟨jok_8, by decide, fun C T N h => by cases h; exact Or.inl ⟨_, q1183, Or.inl rfl⟩⟩
theorem flX13_49 : jFL "CodeLayout$Ordering" 49 815 := ⟨jok_8, by decide, fun C T N h => by cases h; exact Or.inl ⟨_, q1184, Or.inl rfl⟩⟩
theorem flX13_52 : jFL "CodeLayout$Ordering" 52 816 := ⟨jok_8, by decide, fun C T N h => by cases h; exact Or.inl ⟨_, q1185, Or.inl rfl⟩⟩
theorem flX13_55 : jFL "CodeLayout$Ordering" 55 817 := ⟨jok_8, by decide, fun C T N h => by cases h; exact Or.inl ⟨_, q1186, Or.inl rfl⟩⟩
theorem flX13_58 : jFL "CodeLayout$Ordering" 58 818 := ⟨jok_8, by decide, fun C T N h => by cases h; exact Or.inl ⟨_, q1187, Or.inl rfl⟩⟩
theorem flX13_61 : jFL "CodeLayout$Ordering" 61 819 := ⟨jok_8, by decide, fun C T N h => by cases h; exact Or.inl ⟨_, q1188, Or.inl rfl⟩⟩
theorem flX13_64 : jFL "CodeLayout$Ordering" 64 820 := ⟨jok_8, by decide, fun C T N h => by cases h; exact Or.inl ⟨_, q1189, Or.inl rfl⟩⟩
theorem flX13_67 : jFL "CodeLayout$Ordering" 67 821 := ⟨jok_8, by decide, fun C T N h => by cases h; exact Or.inl ⟨_, q1190, Or.inl rfl⟩⟩
theorem flX13_70 : jFL "CodeLayout$Ordering" 70 822 := ⟨jok_8, by decide, fun C T N h => by cases h; exact Or.inl ⟨_, q1191, Or.inl rfl⟩⟩
theorem flX13_73 : jFL "CodeLayout$Ordering" 73 823 := ⟨jok_8, by decide, fun C T N h => by cases h; exact Or.inl ⟨_, q1192, Or.inl rfl⟩⟩
theorem flX13_76 : jFL "CodeLayout$Ordering" 76 824 := ⟨jok_8, by decide, fun C T N h => by cases h; exact Or.inl ⟨_, q1193, Or.inl rfl⟩⟩
theorem flX13_79 : jFL "CodeLayout$Ordering" 79 825 := ⟨jok_8, by decide, fun C T N h => by cases h; exact Or.inl ⟨_, q1194, Or.inl rfl⟩⟩
theorem flX13_82 : jFL "CodeLayout$Ordering" 82 826 := ⟨jok_8, by decide, fun C T N h => by cases h; exact Or.inl ⟨_, q1195, Or.inl rfl⟩⟩
theorem flX13_85 : jFL "CodeLayout$Ordering" 85 827 := ⟨jok_8, by decide, fun C T N h => by cases h; exact Or.inl ⟨_, q1196, Or.inl rfl⟩⟩
theorem flX13_88 : jFL "CodeLayout$Ordering" 88 828 := ⟨jok_8, by decide, fun C T N h => by cases h; exact Or.inl ⟨_, q1197, Or.inl rfl⟩⟩
theorem flX13_91 : jFL "CodeLayout$Ordering" 91 800 := ⟨jok_8, by decide, fun C T N h => by cases h; exact Or.inl ⟨_, q1165, Or.inl rfl⟩⟩
theorem flX13_95 : jFL "CodeLayout$Ordering" 95 217 := ⟨jok_2, by decide, fun C T N h => by cases h; exact Or.inl ⟨_, q544, Or.inl rfl⟩⟩
theorem flX13_105 : jFL "CodeLayout$Ordering" 105 801 := ⟨jok_8, by decide, fun C T N h => by cases h; exact Or.inl ⟨_, q1166, Or.inl rfl⟩⟩
theorem flX13_109 : jFL "CodeLayout$Ordering" 109 802 := ⟨jok_8, by decide, fun C T N h => by cases h; exact Or.inl ⟨_, q1167, Or.inl rfl⟩⟩
theorem flX13_120 : jFL "CodeLayout$Ordering" 120 701 := ⟨jok_7, by decide, fun C T N h => by cases h; exact Or.inl ⟨_, q597, Or.inl rfl⟩⟩
theorem flX13_123 : jFL "CodeLayout$Ordering" 123 600 := ⟨jok_6, by decide, fun C T N h => by cases h; exact Or.inl ⟨_, q483, Or.inl rfl⟩⟩
theorem flX13_126 : jFL "CodeLayout$Ordering" 126 702 := ⟨jok_7, by decide, fun C T N h => by cases h; exact Or.inl ⟨_, q599, Or.inl rfl⟩⟩
theorem flX13_133 : jFL "CodeLayout$Ordering" 133 700 := ⟨jok_7, by decide, fun C T N h => by cases h; exact Or.inl ⟨_, q595, Or.inl rfl⟩⟩
theorem flX13_146 : jFL "CodeLayout$Ordering" 146 601 := ⟨jok_6, by decide, fun C T N h => by cases h; exact Or.inl ⟨_, q491, Or.inl rfl⟩⟩
theorem flX13_186 : jFL "CodeLayout$Ordering" 186 805 := ⟨jok_8, by decide, fun C T N h => by cases h; exact Or.inl ⟨_, q1173, Or.inl rfl⟩⟩
theorem flX14_9 : jFL "CodeLayout$Writing" 9 905 := ⟨jok_9, by decide, fun C T N h => by cases h; exact Or.inl ⟨_, q1269, Or.inl rfl⟩⟩
theorem flX14_15 : jFL "CodeLayout$Writing" 15 906 := ⟨jok_9, by decide, fun C T N h => by cases h; exact Or.inl ⟨_, q1271, Or.inl rfl⟩⟩
theorem flX14_18 : jFL "CodeLayout$Writing" 18 907 := ⟨jok_9, by decide, fun C T N h => by cases h; exact Or.inl ⟨_, q1272, Or.inl rfl⟩⟩
theorem flX14_22 : jFL "CodeLayout$Writing" 22 908 := ⟨jok_9, by decide, fun C T N h => by cases h; exact Or.inl ⟨_, q1273, Or.inl rfl⟩⟩
theorem flX14_26 : jFL "CodeLayout$Writing" 26 913 := ⟨jok_9, by decide, fun C T N h => by cases h; exact Or.inl ⟨_, q1280, Or.inl rfl⟩⟩
theorem flX14_30 : jFL "CodeLayout$Writing" 30 900 := ⟨jok_9, by decide, fun C T N h => by cases h; exact Or.inl ⟨_, q1264, Or.inl rfl⟩⟩
theorem flX14_34 : jFL "CodeLayout$Writing" 34 901 := ⟨jok_9, by decide, fun C T N h => by cases h; exact Or.inl ⟨_, q1265, Or.inl rfl⟩⟩
theorem flX14_37 : jFL "CodeLayout$Writing" 37 217 := ⟨jok_2, by decide, fun C T N h => by cases h; exact Or.inl ⟨_, q545, Or.inl rfl⟩⟩
theorem flX14_43 : jFL "CodeLayout$Writing" 43 902 := ⟨jok_9, by decide, fun C T N h => by cases h; exact Or.inl ⟨_, q1266, Or.inl rfl⟩⟩
theorem flX14_46 : jFL "CodeLayout$Writing" 46 903 := ⟨jok_9, by decide, fun C T N h => by cases h; exact Or.inl ⟨_, q1267, Or.inl rfl⟩⟩
theorem flX14_49 : jFL "CodeLayout$Writing" 49 904 := ⟨jok_9, by decide, fun C T N h => by cases h; exact Or.inl ⟨_, q1268, Or.inl rfl⟩⟩
theorem flX14_59 : jFL "CodeLayout$Writing" 59 909 := ⟨jok_9, by decide, fun C T N h => by cases h; exact Or.inl ⟨_, q1274, Or.inl rfl⟩⟩
theorem flX14_68 : jFL "CodeLayout$Writing" 68 214 := ⟨jok_2, by decide, fun C T N h => by cases h; exact Or.inl ⟨_, q537, Or.inl rfl⟩⟩
theorem flX14_71 : jFL "CodeLayout$Writing" 71 215 := ⟨jok_2, by decide, fun C T N h => by cases h; exact Or.inl ⟨_, q541, Or.inl rfl⟩⟩
theorem flX14_90 : jFL "CodeLayout$Writing" 90 205 := ⟨jok_2, by decide, fun C T N h => by cases h; exact Or.inl ⟨_, q515, Or.inl rfl⟩⟩
theorem flX14_107 : jFL "CodeLayout$Writing" 107 910 := ⟨jok_9, by decide, fun C T N h => by cases h; exact Or.inl ⟨_, q1275, Or.inl rfl⟩⟩
theorem flX14_114 : jFL "CodeLayout$Writing" 114 911 := ⟨jok_9, by decide, fun C T N h => by cases h; exact Or.inl ⟨_, q1276, Or.inl rfl⟩⟩
theorem flX14_120 : jFL "CodeLayout$Writing" 120 912 := ⟨jok_9, by decide, fun C T N h => by cases h; exact Or.inl ⟨_, q1278, Or.inl rfl⟩⟩
theorem flX14_123 : jFL "CodeLayout$Writing" 123 206 := ⟨jok_2, by decide, fun C T N h => by cases h; exact Or.inl ⟨_, q519, Or.inl rfl⟩⟩
theorem flX14_129 : jFL "CodeLayout$Writing" 129 213 := ⟨jok_2, by decide, fun C T N h => by cases h; exact Or.inl ⟨_, q534, Or.inl rfl⟩⟩
theorem flX14_133 : jFL "CodeLayout$Writing" 133 600 := ⟨jok_6, by decide, fun C T N h => by cases h; exact Or.inl ⟨_, q486, Or.inl rfl⟩⟩
theorem flX14_138 : jFL "CodeLayout$Writing" 138 920 := ⟨jok_9, by decide, fun C T N h => by cases h; exact Or.inl ⟨_, q1292, Or.inl rfl⟩⟩
theorem flX14_141 : jFL "CodeLayout$Writing" 141 919 := ⟨jok_9, by decide, fun C T N h => by cases h; exact Or.inl ⟨_, q1290, Or.inl rfl⟩⟩
theorem flX14_152 : jFL "CodeLayout$Writing" 152 915 := ⟨jok_9, by decide, fun C T N h => by cases h; exact Or.inl ⟨_, q1282, Or.inl rfl⟩⟩
theorem flX14_155 : jFL "CodeLayout$Writing" 155 916 := ⟨jok_9, by decide, fun C T N h => by cases h; exact Or.inl ⟨_, q1284, Or.inl rfl⟩⟩
theorem flX14_158 : jFL "CodeLayout$Writing" 158 917 := ⟨jok_9, by decide, fun C T N h => by cases h; exact Or.inl ⟨_, q1286, Or.inl rfl⟩⟩
theorem flX14_161 : jFL "CodeLayout$Writing" 161 918 := ⟨jok_9, by decide, fun C T N h => by cases h; exact Or.inl ⟨_, q1288, Or.inl rfl⟩⟩
theorem flX14_178 : jFL "CodeLayout$Writing" 178 207 := ⟨jok_2, by decide, fun C T N h => by cases h; exact Or.inl ⟨_, q522, Or.inl rfl⟩⟩
theorem flX14_181 : jFL "CodeLayout$Writing" 181 201 := ⟨jok_2, by decide, fun C T N h => by cases h; exact Or.inl ⟨_, q502, Or.inl rfl⟩⟩
theorem flX14_193 : jFL "CodeLayout$Writing" 193 204 := ⟨jok_2, by decide, fun C T N h => by cases h; exact Or.inl ⟨_, q512, Or.inl rfl⟩⟩
theorem flX14_215 : jFL "CodeLayout$Writing" 215 202 := ⟨jok_2, by decide, fun C T N h => by cases h; exact Or.inl ⟨_, q506, Or.inl rfl⟩⟩
theorem flX14_218 : jFL "CodeLayout$Writing" 218 501 := ⟨jok_5, by decide, fun C T N h => by cases h; exact Or.inl ⟨_, q470, Or.inl rfl⟩⟩
theorem flX14_223 : jFL "CodeLayout$Writing" 223 914 := ⟨jok_9, by decide, fun C T N h => by cases h; exact Or.inl ⟨_, q1281, Or.inl rfl⟩⟩
theorem flX14_230 : jFL "CodeLayout$Writing" 230 203 := ⟨jok_2, by decide, fun C T N h => by cases h; exact Or.inl ⟨_, q510, Or.inl rfl⟩⟩
theorem flX14_241 : jFL "CodeLayout$Writing" 241 500 := ⟨jok_5, by decide, fun C T N h => by cases h; exact Or.inl ⟨_, q467, Or.inl rfl⟩⟩
theorem flX14_249 : jFL "CodeLayout$Writing" 249 404 := ⟨jok_4, by decide, fun C T N h => by cases h; exact Or.inl ⟨_, q371, Or.inl rfl⟩⟩
theorem flX14_257 : jFL "CodeLayout$Writing" 257 405 := ⟨jok_4, by decide, fun C T N h => by cases h; exact Or.inl ⟨_, q373, Or.inl rfl⟩⟩
theorem flX14_263 : jFL "CodeLayout$Writing" 263 403 := ⟨jok_4, by decide, fun C T N h => by cases h; exact Or.inl ⟨_, q367, Or.inl rfl⟩⟩
theorem flX14_266 : jFL "CodeLayout$Writing" 266 418 := ⟨jok_4, by decide, fun C T N h => by cases h; exact Or.inl ⟨_, q403, Or.inl rfl⟩⟩
theorem flX14_272 : jFL "CodeLayout$Writing" 272 414 := ⟨jok_4, by decide, fun C T N h => by cases h; exact Or.inl ⟨_, q395, Or.inl rfl⟩⟩
theorem flX14_294 : jFL "CodeLayout$Writing" 294 210 := ⟨jok_2, by decide, fun C T N h => by cases h; exact Or.inl ⟨_, q530, Or.inl rfl⟩⟩
theorem flX14_300 : jFL "CodeLayout$Writing" 300 411 := ⟨jok_4, by decide, fun C T N h => by cases h; exact Or.inl ⟨_, q388, Or.inl rfl⟩⟩
theorem flX14_328 : jFL "CodeLayout$Writing" 328 417 := ⟨jok_4, by decide, fun C T N h => by cases h; exact Or.inl ⟨_, q401, Or.inl rfl⟩⟩
theorem flX14_331 : jFL "CodeLayout$Writing" 331 413 := ⟨jok_4, by decide, fun C T N h => by cases h; exact Or.inl ⟨_, q392, Or.inl rfl⟩⟩
theorem flX15_12 : jFL "CodeLayout$Machine" 12 1004 := ⟨jok_10, by decide, fun C T N h => by cases h; exact Or.inl ⟨_, q1453, Or.inl rfl⟩⟩
theorem flX15_18 : jFL "CodeLayout$Machine" 18 1007 := ⟨jok_10, by decide, fun C T N h => by cases h; exact Or.inl ⟨_, q1457, Or.inl rfl⟩⟩
theorem flX15_22 : jFL "CodeLayout$Machine" 22 1008 := ⟨jok_10, by decide, fun C T N h => by cases h; exact Or.inl ⟨_, q1459, Or.inl rfl⟩⟩
theorem flX15_26 : jFL "CodeLayout$Machine" 26 1009 := ⟨jok_10, by decide, fun C T N h => by cases h; exact Or.inl ⟨_, q1461, Or.inl rfl⟩⟩
theorem flX15_29 : jFL "CodeLayout$Machine" 29 1020 := ⟨jok_10, by decide, fun C T N h => by cases h; exact Or.inl ⟨_, q1482, Or.inl rfl⟩⟩
theorem flX15_32 : jFL "CodeLayout$Machine" 32 1021 := ⟨jok_10, by decide, fun C T N h => by cases h; exact Or.inl ⟨_, q1484, Or.inl rfl⟩⟩
theorem flX15_35 : jFL "CodeLayout$Machine" 35 1022 := ⟨jok_10, by decide, fun C T N h => by cases h; exact Or.inl ⟨_, q1486, Or.inl rfl⟩⟩
theorem flX15_39 : jFL "CodeLayout$Machine" 39 1000 := ⟨jok_10, by decide, fun C T N h => by cases h; exact Or.inl ⟨_, q1449, Or.inl rfl⟩⟩
theorem flX15_43 : jFL "CodeLayout$Machine" 43 1001 := ⟨jok_10, by decide, fun C T N h => by cases h; exact Or.inl ⟨_, q1450, Or.inl rfl⟩⟩
theorem flX15_47 : jFL "CodeLayout$Machine" 47 1002 := ⟨jok_10, by decide, fun C T N h => by cases h; exact Or.inl ⟨_, q1451, Or.inl rfl⟩⟩
theorem flX15_51 : jFL "CodeLayout$Machine" 51 1003 := ⟨jok_10, by decide, fun C T N h => by cases h; exact Or.inl ⟨_, q1452, Or.inl rfl⟩⟩
theorem flX15_60 : jFL "CodeLayout$Machine" 60 1005 := ⟨jok_10, by decide, fun C T N h => by cases h; exact Or.inl ⟨_, q1454, Or.inl rfl⟩⟩
theorem flX15_64 : jFL "CodeLayout$Machine" 64 1006 := ⟨jok_10, by decide, fun C T N h => by cases h; exact Or.inl ⟨_, q1456, Or.inl rfl⟩⟩
theorem flX15_75 : jFL "CodeLayout$Machine" 75 202 := ⟨jok_2, by decide, fun C T N h => by cases h; exact Or.inl ⟨_, q504, Or.inl rfl⟩⟩
theorem flX15_87 : jFL "CodeLayout$Machine" 87 1010 := ⟨jok_10, by decide, fun C T N h => by cases h; exact Or.inl ⟨_, q1463, Or.inl rfl⟩⟩
theorem flX15_90 : jFL "CodeLayout$Machine" 90 1011 := ⟨jok_10, by decide, fun C T N h => by cases h; exact Or.inl ⟨_, q1465, Or.inl rfl⟩⟩
theorem flX15_93 : jFL "CodeLayout$Machine" 93 1012 := ⟨jok_10, by decide, fun C T N h => by cases h; exact Or.inl ⟨_, q1467, Or.inl rfl⟩⟩
theorem flX15_96 : jFL "CodeLayout$Machine" 96 1013 := ⟨jok_10, by decide, fun C T N h => by cases h; exact Or.inl ⟨_, q1469, Or.inl rfl⟩⟩
theorem flX15_99 : jFL "CodeLayout$Machine" 99 1015 := ⟨jok_10, by decide, fun C T N h => by cases h; exact Or.inl ⟨_, q1472, Or.inl rfl⟩⟩
theorem flX15_102 : jFL "CodeLayout$Machine" 102 1016 := ⟨jok_10, by decide, fun C T N h => by cases h; exact Or.inl ⟨_, q1474, Or.inl rfl⟩⟩
theorem flX15_105 : jFL "CodeLayout$Machine" 105 1017 := ⟨jok_10, by decide, fun C T N h => by cases h; exact Or.inl ⟨_, q1476, Or.inl rfl⟩⟩
theorem flX15_108 : jFL "CodeLayout$Machine" 108 1018 := ⟨jok_10, by decide, fun C T N h => by cases h; exact Or.inl ⟨_, q1478, Or.inl rfl⟩⟩
theorem flX15_114 : jFL "CodeLayout$Machine" 114 201 := ⟨jok_2, by decide, fun C T N h => by cases h; exact Or.inl ⟨_, q500, Or.inl rfl⟩⟩
theorem flX15_118 : jFL "CodeLayout$Machine" 118 404 := ⟨jok_4, by decide, fun C T N h => by cases h; exact Or.inl ⟨_, q369, Or.inl rfl⟩⟩
theorem flX15_134 : jFL "CodeLayout$Machine" 134 1014 := ⟨jok_10, by decide, fun C T N h => by cases h; exact Or.inl ⟨_, q1471, Or.inl rfl⟩⟩
theorem flX15_137 : jFL "CodeLayout$Machine" 137 1019 := ⟨jok_10, by decide, fun C T N h => by cases h; exact Or.inl ⟨_, q1480, Or.inl rfl⟩⟩
theorem flX15_153 : jFL "CodeLayout$Machine" 153 1100 := ⟨jok_11, by decide, fun C T N h => by cases h; exact Or.inl ⟨_, q1413, Or.inl rfl⟩⟩
theorem flX15_154 : jFL "CodeLayout$Machine" 154 403 := ⟨jok_4, by decide, fun C T N h => by cases h; exact Or.inl ⟨_, q365, Or.inl rfl⟩⟩
theorem flX15_157 : jFL "CodeLayout$Machine" 157 411 := ⟨jok_4, by decide, fun C T N h => by cases h; exact Or.inl ⟨_, q386, Or.inl rfl⟩⟩
theorem flX15_160 : jFL "CodeLayout$Machine" 160 417 := ⟨jok_4, by decide, fun C T N h => by cases h; exact Or.inl ⟨_, q399, Or.inl rfl⟩⟩
theorem flX15_187 : jFL "CodeLayout$Machine" 187 206 := ⟨jok_2, by decide, fun C T N h => by cases h; exact Or.inl ⟨_, q518, Or.inl rfl⟩⟩
theorem flX15_197 : jFL "CodeLayout$Machine" 197 912 := ⟨jok_9, by decide, fun C T N h => by cases h; exact Or.inl ⟨_, q1277, Or.inl rfl⟩⟩
theorem flX15_200 : jFL "CodeLayout$Machine" 200 203 := ⟨jok_2, by decide, fun C T N h => by cases h; exact Or.inl ⟨_, q507, Or.inl rfl⟩⟩
theorem flX15_221 : jFL "CodeLayout$Machine" 221 208 := ⟨jok_2, by decide, fun C T N h => by cases h; exact Or.inl ⟨_, q525, Or.inl rfl⟩⟩
theorem flX15_225 : jFL "CodeLayout$Machine" 225 217 := ⟨jok_2, by decide, fun C T N h => by cases h; exact Or.inl ⟨_, q546, Or.inl rfl⟩⟩
theorem flX15_228 : jFL "CodeLayout$Machine" 228 905 := ⟨jok_9, by decide, fun C T N h => by cases h; exact Or.inr ⟨_, q1270⟩⟩
theorem flX15_231 : jFL "CodeLayout$Machine" 231 804 := ⟨jok_8, by decide, fun C T N h => by cases h; exact Or.inl ⟨_, q1171, Or.inl rfl⟩⟩
theorem flX15_236 : jFL "CodeLayout$Machine" 236 214 := ⟨jok_2, by decide, fun C T N h => by cases h; exact Or.inl ⟨_, q538, Or.inl rfl⟩⟩
theorem flX15_266 : jFL "CodeLayout$Machine" 266 204 := ⟨jok_2, by decide, fun C T N h => by cases h; exact Or.inl ⟨_, q513, Or.inl rfl⟩⟩
theorem flX15_274 : jFL "CodeLayout$Machine" 274 205 := ⟨jok_2, by decide, fun C T N h => by cases h; exact Or.inl ⟨_, q516, Or.inl rfl⟩⟩
theorem flX15_370 : jFL "CodeLayout$Machine" 370 207 := ⟨jok_2, by decide, fun C T N h => by cases h; exact Or.inl ⟨_, q523, Or.inl rfl⟩⟩
theorem flX16_10 : jFL "CodeLayout$Halt" 10 1101 := ⟨jok_11, by decide, fun C T N h => by cases h; exact Or.inl ⟨_, q1414, Or.inl rfl⟩⟩
theorem flX17_12 : jFL "CodeLayout$Memory" 12 1202 := ⟨jok_12, by decide, fun C T N h => by cases h; exact Or.inl ⟨_, q1429, Or.inl rfl⟩⟩
theorem flX17_16 : jFL "CodeLayout$Memory" 16 1203 := ⟨jok_12, by decide, fun C T N h => by cases h; exact Or.inl ⟨_, q1430, Or.inl rfl⟩⟩
theorem flX17_20 : jFL "CodeLayout$Memory" 20 1204 := ⟨jok_12, by decide, fun C T N h => by cases h; exact Or.inl ⟨_, q1431, Or.inl rfl⟩⟩
theorem flX17_23 : jFL "CodeLayout$Memory" 23 1205 := ⟨jok_12, by decide, fun C T N h => by cases h; exact Or.inl ⟨_, q1432, Or.inl rfl⟩⟩
theorem flX17_26 : jFL "CodeLayout$Memory" 26 1206 := ⟨jok_12, by decide, fun C T N h => by cases h; exact Or.inl ⟨_, q1433, Or.inl rfl⟩⟩
theorem flX17_29 : jFL "CodeLayout$Memory" 29 1200 := ⟨jok_12, by decide, fun C T N h => by cases h; exact Or.inl ⟨_, q1427, Or.inl rfl⟩⟩
theorem flX17_37 : jFL "CodeLayout$Memory" 37 201 := ⟨jok_2, by decide, fun C T N h => by cases h; exact Or.inl ⟨_, q499, Or.inl rfl⟩⟩
theorem flX17_43 : jFL "CodeLayout$Memory" 43 402 := ⟨jok_4, by decide, fun C T N h => by cases h; exact Or.inl ⟨_, q362, Or.inl rfl⟩⟩
theorem flX17_58 : jFL "CodeLayout$Memory" 58 408 := ⟨jok_4, by decide, fun C T N h => by cases h; exact Or.inl ⟨_, q379, Or.inl rfl⟩⟩
theorem flX17_63 : jFL "CodeLayout$Memory" 63 410 := ⟨jok_4, by decide, fun C T N h => by cases h; exact Or.inl ⟨_, q383, Or.inl rfl⟩⟩
theorem flX17_73 : jFL "CodeLayout$Memory" 73 409 := ⟨jok_4, by decide, fun C T N h => by cases h; exact Or.inl ⟨_, q381, Or.inl rfl⟩⟩
theorem flX17_93 : jFL "CodeLayout$Memory" 93 407 := ⟨jok_4, by decide, fun C T N h => by cases h; exact Or.inl ⟨_, q376, Or.inl rfl⟩⟩
theorem flX2_10 : jFL "CodeLayout$Trouble" 10 302 := ⟨jok_3, by decide, fun C T N h => by cases h; exact Or.inl ⟨_, q346, Or.inl rfl⟩⟩
theorem flX3_9 : jFL "CodeLayout$Shape" 9 407 := ⟨jok_4, by decide, fun C T N h => by cases h; exact Or.inl ⟨_, q375, Or.inl rfl⟩⟩
theorem flX3_15 : jFL "CodeLayout$Shape" 15 408 := ⟨jok_4, by decide, fun C T N h => by cases h; exact Or.inl ⟨_, q377, Or.inl rfl⟩⟩
theorem flX3_19 : jFL "CodeLayout$Shape" 19 409 := ⟨jok_4, by decide, fun C T N h => by cases h; exact Or.inl ⟨_, q380, Or.inl rfl⟩⟩
theorem flX3_22 : jFL "CodeLayout$Shape" 22 410 := ⟨jok_4, by decide, fun C T N h => by cases h; exact Or.inl ⟨_, q382, Or.inl rfl⟩⟩
theorem flX3_25 : jFL "CodeLayout$Shape" 25 411 := ⟨jok_4, by decide, fun C T N h => by cases h; exact Or.inl ⟨_, q385, Or.inl rfl⟩⟩
theorem flX3_28 : jFL "CodeLayout$Shape" 28 412 := ⟨jok_4, by decide, fun C T N h => by cases h; exact Or.inl ⟨_, q389, Or.inl rfl⟩⟩
theorem flX3_31 : jFL "CodeLayout$Shape" 31 413 := ⟨jok_4, by decide, fun C T N h => by cases h; exact Or.inl ⟨_, q390, Or.inl rfl⟩⟩
theorem flX3_34 : jFL "CodeLayout$Shape" 34 414 := ⟨jok_4, by decide, fun C T N h => by cases h; exact Or.inl ⟨_, q393, Or.inl rfl⟩⟩
theorem flX3_37 : jFL "CodeLayout$Shape" 37 415 := ⟨jok_4, by decide, fun C T N h => by cases h; exact Or.inl ⟨_, q396, Or.inl rfl⟩⟩
theorem flX3_40 : jFL "CodeLayout$Shape" 40 416 := ⟨jok_4, by decide, fun C T N h => by cases h; exact Or.inl ⟨_, q397, Or.inl rfl⟩⟩
theorem flX3_43 : jFL "CodeLayout$Shape" 43 417 := ⟨jok_4, by decide, fun C T N h => by cases h; exact Or.inl ⟨_, q398, Or.inl rfl⟩⟩
theorem flX3_46 : jFL "CodeLayout$Shape" 46 420 := ⟨jok_4, by decide, fun C T N h => by cases h; exact Or.inl ⟨_, q405, Or.inl rfl⟩⟩
theorem flX3_49 : jFL "CodeLayout$Shape" 49 421 := ⟨jok_4, by decide, fun C T N h => by cases h; exact Or.inl ⟨_, q406, Or.inl rfl⟩⟩
theorem flX3_53 : jFL "CodeLayout$Shape" 53 400 := ⟨jok_4, by decide, fun C T N h => by cases h; exact Or.inl ⟨_, q360, Or.inl rfl⟩⟩
theorem flX3_57 : jFL "CodeLayout$Shape" 57 401 := ⟨jok_4, by decide, fun C T N h => by cases h; exact Or.inl ⟨_, q361, Or.inl rfl⟩⟩
theorem flX3_64 : jFL "CodeLayout$Shape" 64 402 := ⟨jok_4, by decide, fun C T N h => by cases h; exact Or.inl ⟨_, q363, Or.inl rfl⟩⟩
theorem flX3_78 : jFL "CodeLayout$Shape" 78 403 := ⟨jok_4, by decide, fun C T N h => by cases h; exact Or.inl ⟨_, q364, Or.inl rfl⟩⟩
theorem flX3_83 : jFL "CodeLayout$Shape" 83 404 := ⟨jok_4, by decide, fun C T N h => by cases h; exact Or.inl ⟨_, q368, Or.inl rfl⟩⟩
theorem flX3_138 : jFL "CodeLayout$Shape" 138 406 := ⟨jok_4, by decide, fun C T N h => by cases h; exact Or.inl ⟨_, q374, Or.inl rfl⟩⟩
theorem flX3_143 : jFL "CodeLayout$Shape" 143 405 := ⟨jok_4, by decide, fun C T N h => by cases h; exact Or.inl ⟨_, q372, Or.inl rfl⟩⟩
theorem flX3_167 : jFL "CodeLayout$Shape" 167 418 := ⟨jok_4, by decide, fun C T N h => by cases h; exact Or.inl ⟨_, q402, Or.inl rfl⟩⟩
theorem flX3_170 : jFL "CodeLayout$Shape" 170 419 := ⟨jok_4, by decide, fun C T N h => by cases h; exact Or.inl ⟨_, q404, Or.inl rfl⟩⟩
theorem flX5_10 : jFL "CodeLayout$Held" 10 500 := ⟨jok_5, by decide, fun C T N h => by cases h; exact Or.inl ⟨_, q465, Or.inl rfl⟩⟩
theorem flX5_16 : jFL "CodeLayout$Held" 16 501 := ⟨jok_5, by decide, fun C T N h => by cases h; exact Or.inl ⟨_, q468, Or.inl rfl⟩⟩
theorem flX6_7 : jFL "CodeLayout$Row" 7 600 := ⟨jok_6, by decide, fun C T N h => by cases h; exact Or.inl ⟨_, q482, Or.inl rfl⟩⟩
theorem flX6_13 : jFL "CodeLayout$Row" 13 601 := ⟨jok_6, by decide, fun C T N h => by cases h; exact Or.inl ⟨_, q488, Or.inl rfl⟩⟩
theorem flX7_10 : jFL "CodeLayout$Counts" 10 700 := ⟨jok_7, by decide, fun C T N h => by cases h; exact Or.inl ⟨_, q594, Or.inl rfl⟩⟩
theorem flX7_16 : jFL "CodeLayout$Counts" 16 701 := ⟨jok_7, by decide, fun C T N h => by cases h; exact Or.inl ⟨_, q596, Or.inl rfl⟩⟩
theorem flX7_19 : jFL "CodeLayout$Counts" 19 702 := ⟨jok_7, by decide, fun C T N h => by cases h; exact Or.inl ⟨_, q598, Or.inl rfl⟩⟩
theorem flX7_23 : jFL "CodeLayout$Counts" 23 703 := ⟨jok_7, by decide, fun C T N h => by cases h; exact Or.inl ⟨_, q600, Or.inl rfl⟩⟩
theorem flX7_27 : jFL "CodeLayout$Counts" 27 601 := ⟨jok_6, by decide, fun C T N h => by cases h; exact Or.inl ⟨_, q489, Or.inl rfl⟩⟩
theorem flX7_31 : jFL "CodeLayout$Counts" 31 600 := ⟨jok_6, by decide, fun C T N h => by cases h; exact Or.inl ⟨_, q484, Or.inl rfl⟩⟩
theorem flX8_10 : jFL "CodeLayoutModel" 10 1300 := ⟨jok_13, by decide, fun C T N h => by cases h; exact Or.inl ⟨_, q2577, Or.inl rfl⟩⟩
theorem flX8_14 : jFL "CodeLayoutModel" 14 1303 := ⟨jok_13, by decide, fun C T N h => by cases h; exact Or.inl ⟨_, q2580, Or.inl rfl⟩⟩
theorem flX8_17 : jFL "CodeLayoutModel" 17 1304 := ⟨jok_13, by decide, fun C T N h => by cases h; exact Or.inl ⟨_, q2582, Or.inl rfl⟩⟩
theorem flX8_23 : jFL "CodeLayoutModel" 23 1305 := ⟨jok_13, by decide, fun C T N h => by cases h; exact Or.inl ⟨_, q2583, Or.inl rfl⟩⟩
theorem flX8_27 : jFL "CodeLayoutModel" 27 1306 := ⟨jok_13, by decide, fun C T N h => by cases h; exact Or.inl ⟨_, q2586, Or.inl rfl⟩⟩
theorem flX8_32 : jFL "CodeLayoutModel" 32 1314 := ⟨jok_13, by decide, fun C T N h => by cases h; exact Or.inl ⟨_, q2599, Or.inl rfl⟩⟩
theorem flX8_36 : jFL "CodeLayoutModel" 36 1315 := ⟨jok_13, by decide, fun C T N h => by cases h; exact Or.inl ⟨_, q2600, Or.inl rfl⟩⟩
theorem flX8_40 : jFL "CodeLayoutModel" 40 1316 := ⟨jok_13, by decide, fun C T N h => by cases h; exact Or.inl ⟨_, q2603, Or.inl rfl⟩⟩
theorem flX8_43 : jFL "CodeLayoutModel" 43 1317 := ⟨jok_13, by decide, fun C T N h => by cases h; exact Or.inl ⟨_, q2606, Or.inl rfl⟩⟩
theorem flX8_46 : jFL "CodeLayoutModel" 46 1318 := ⟨jok_13, by decide, fun C T N h => by cases h; exact Or.inl ⟨_, q2609, Or.inl rfl⟩⟩
theorem flX8_50 : jFL "CodeLayoutModel" 50 1319 := ⟨jok_13, by decide, fun C T N h => by cases h; exact Or.inl ⟨_, q2610, Or.inl rfl⟩⟩
theorem flX8_53 : jFL "CodeLayoutModel" 53 1320 := ⟨jok_13, by decide, fun C T N h => by cases h; exact Or.inl ⟨_, q2611, Or.inl rfl⟩⟩
theorem flX8_56 : jFL "CodeLayoutModel" 56 1321 := ⟨jok_13, by decide, fun C T N h => by cases h; exact Or.inl ⟨_, q2612, Or.inl rfl⟩⟩
theorem flX8_59 : jFL "CodeLayoutModel" 59 1322 := ⟨jok_13, by decide, fun C T N h => by cases h; exact Or.inl ⟨_, q2613, Or.inl rfl⟩⟩
theorem flX8_62 : jFL "CodeLayoutModel" 62 1323 := ⟨jok_13, by decide, fun C T N h => by cases h; exact Or.inl ⟨_, q2616, Or.inl rfl⟩⟩
theorem flX8_65 : jFL "CodeLayoutModel" 65 1324 := ⟨jok_13, by decide, fun C T N h => by cases h; exact Or.inl ⟨_, q2619, Or.inl rfl⟩⟩
theorem flX8_68 : jFL "CodeLayoutModel" 68 1325 := ⟨jok_13, by decide, fun C T N h => by cases h; exact Or.inl ⟨_, q2620, Or.inl rfl⟩⟩
theorem flX8_71 : jFL "CodeLayoutModel" 71 1326 := ⟨jok_13, by decide, fun C T N h => by cases h; exact Or.inl ⟨_, q2622, Or.inl rfl⟩⟩
theorem flX8_74 : jFL "CodeLayoutModel" 74 1327 := ⟨jok_13, by decide, fun C T N h => by cases h; exact Or.inl ⟨_, q2624, Or.inl rfl⟩⟩
theorem flX8_77 : jFL "CodeLayoutModel" 77 1330 := ⟨jok_13, by decide, fun C T N h => by cases h; exact Or.inl ⟨_, q2627, Or.inl rfl⟩⟩
theorem flX8_80 : jFL "CodeLayoutModel" 80 1331 := ⟨jok_13, by decide, fun C T N h => by cases h; exact Or.inl ⟨_, q2628, Or.inl rfl⟩⟩
theorem flX8_83 : jFL "CodeLayoutModel" 83 1332 := ⟨jok_13, by decide, fun C T N h => by cases h; exact Or.inl ⟨_, q2629, Or.inl rfl⟩⟩
theorem flX8_86 : jFL "CodeLayoutModel" 86 1333 := ⟨jok_13, by decide, fun C T N h => by cases h; exact Or.inl ⟨_, q2630, Or.inl rfl⟩⟩
theorem flX8_90 : jFL "CodeLayoutModel" 90 1334 := ⟨jok_13, by decide, fun C T N h => by cases h; exact Or.inl ⟨_, q2631, Or.inl rfl⟩⟩
theorem flX8_93 : jFL "CodeLayoutModel" 93 1335 := ⟨jok_13, by decide, fun C T N h => by cases h; exact Or.inl ⟨_, q2632, Or.inl rfl⟩⟩
theorem flX8_96 : jFL "CodeLayoutModel" 96 1336 := ⟨jok_13, by decide, fun C T N h => by cases h; exact Or.inl ⟨_, q2633, Or.inl rfl⟩⟩
theorem flX8_99 : jFL "CodeLayoutModel" 99 1337 := ⟨jok_13, by decide, fun C T N h => by cases h; exact Or.inl ⟨_, q2634, Or.inl rfl⟩⟩
theorem flX8_102 : jFL "CodeLayoutModel" 102 1338 := ⟨jok_13, by decide, fun C T N h => by cases h; exact Or.inl ⟨_, q2635, Or.inl rfl⟩⟩
theorem flX8_105 : jFL "CodeLayoutModel" 105 1339 := ⟨jok_13, by decide, fun C T N h => by cases h; exact Or.inl ⟨_, q2636, Or.inl rfl⟩⟩
theorem flX8_108 : jFL "CodeLayoutModel" 108 1340 := ⟨jok_13, by decide, fun C T N h => by cases h; exact Or.inl ⟨_, q2637, Or.inl rfl⟩⟩
theorem flX8_111 : jFL "CodeLayoutModel" 111 1341 := ⟨jok_13, by decide, fun C T N h => by cases h; exact Or.inl ⟨_, q2638, Or.inl rfl⟩⟩
theorem flX8_114 : jFL "CodeLayoutModel" 114 1342 := ⟨jok_13, by decide, fun C T N h => by cases h; exact Or.inl ⟨_, q2639, Or.inl rfl⟩⟩
theorem flX8_117 : jFL "CodeLayoutModel" 117 1343 := ⟨jok_13, by decide, fun C T N h => by cases h; exact Or.inl ⟨_, q2640, Or.inl rfl⟩⟩
theorem flX8_120 : jFL "CodeLayoutModel" 120 1344 := ⟨jok_13, by decide, fun C T N h => by cases h; exact Or.inl ⟨_, q2641, Or.inl rfl⟩⟩
theorem flX8_123 : jFL "CodeLayoutModel" 123 1345 := ⟨jok_13, by decide, fun C T N h => by cases h; exact Or.inl ⟨_, q2642, Or.inl rfl⟩⟩
theorem flX8_126 : jFL "CodeLayoutModel" 126 1346 := ⟨jok_13, by decide, fun C T N h => by cases h; exact Or.inl ⟨_, q2643, Or.inl rfl⟩⟩
theorem flX8_129 : jFL "CodeLayoutModel" 129 1347 := ⟨jok_13, by decide, fun C T N h => by cases h; exact Or.inl ⟨_, q2644, Or.inl rfl⟩⟩
theorem flX8_132 : jFL "CodeLayoutModel" 132 1348 := ⟨jok_13, by decide, fun C T N h => by cases h; exact Or.inl ⟨_, q2645, Or.inl rfl⟩⟩
theorem flX8_135 : jFL "CodeLayoutModel" 135 1349 := ⟨jok_13, by decide, fun C T N h => by cases h; exact Or.inl ⟨_, q2646, Or.inl rfl⟩⟩
theorem flX8_143 : jFL "CodeLayoutModel" 143 1350 := ⟨jok_13, by decide, fun C T N h => by cases h; exact Or.inl ⟨_, q2647, Or.inl rfl⟩⟩
theorem flX8_147 : jFL "CodeLayoutModel" 147 1351 := ⟨jok_13, by decide, fun C T N h => by cases h; exact Or.inl ⟨_, q2649, Or.inl rfl⟩⟩
theorem flX8_151 : jFL "CodeLayoutModel" 151 1354 := ⟨jok_13, by decide, fun C T N h => by cases h; exact Or.inl ⟨_, q2653, Or.inl rfl⟩⟩
theorem flX8_154 : jFL "CodeLayoutModel" 154 1358 := ⟨jok_13, by decide, fun C T N h => by cases h; exact Or.inl ⟨_, q2658, Or.inl rfl⟩⟩
theorem flX8_157 : jFL "CodeLayoutModel" 157 1359 := ⟨jok_13, by decide, fun C T N h => by cases h; exact Or.inl ⟨_, q2659, Or.inl rfl⟩⟩
theorem flX8_160 : jFL "CodeLayoutModel" 160 1360 := ⟨jok_13, by decide, fun C T N h => by cases h; exact Or.inl ⟨_, q2660, Or.inl rfl⟩⟩
theorem flX8_168 : jFL "CodeLayoutModel" 168 1361 := ⟨jok_13, by decide, fun C T N h => by cases h; exact Or.inl ⟨_, q2661, Or.inl rfl⟩⟩
theorem flX8_172 : jFL "CodeLayoutModel" 172 1362 := ⟨jok_13, by decide, fun C T N h => by cases h; exact Or.inl ⟨_, q2662, Or.inl rfl⟩⟩
theorem flX8_175 : jFL "CodeLayoutModel" 175 1363 := ⟨jok_13, by decide, fun C T N h => by cases h; exact Or.inl ⟨_, q2663, Or.inl rfl⟩⟩
theorem flX8_178 : jFL "CodeLayoutModel" 178 1301 := ⟨jok_13, by decide, fun C T N h => by cases h; exact Or.inl ⟨_, q2578, Or.inl rfl⟩⟩
theorem flX8_182 : jFL "CodeLayoutModel" 182 1302 := ⟨jok_13, by decide, fun C T N h => by cases h; exact Or.inl ⟨_, q2579, Or.inl rfl⟩⟩
theorem flX8_261 : jFL "CodeLayoutModel" 261 1417 := ⟨jok_14, by decide, fun C T N h => by cases h; exact Or.inl ⟨_, q2379, Or.inl rfl⟩⟩
theorem flX8_265 : jFL "CodeLayoutModel" 265 1307 := ⟨jok_13, by decide, fun C T N h => by cases h; exact Or.inl ⟨_, q2587, Or.inl rfl⟩⟩
theorem flX8_269 : jFL "CodeLayoutModel" 269 1308 := ⟨jok_13, by decide, fun C T N h => by cases h; exact Or.inl ⟨_, q2588, Or.inl rfl⟩⟩
theorem flX8_272 : jFL "CodeLayoutModel" 272 1329 := ⟨jok_13, by decide, fun C T N h => by cases h; exact Or.inl ⟨_, q2626, Or.inl rfl⟩⟩
theorem flX8_275 : jFL "CodeLayoutModel" 275 1352 := ⟨jok_13, by decide, fun C T N h => by cases h; exact Or.inl ⟨_, q2651, Or.inl rfl⟩⟩
theorem flX8_281 : jFL "CodeLayoutModel" 281 1311 := ⟨jok_13, by decide, fun C T N h => by cases h; exact Or.inl ⟨_, q2593, Or.inl rfl⟩⟩
theorem flX8_298 : jFL "CodeLayoutModel" 298 1415 := ⟨jok_14, by decide, fun C T N h => by cases h; exact Or.inl ⟨_, q2376, Or.inl rfl⟩⟩
theorem flX8_301 : jFL "CodeLayoutModel" 301 1412 := ⟨jok_14, by decide, fun C T N h => by cases h; exact Or.inl ⟨_, q2367, Or.inl rfl⟩⟩
theorem flX8_304 : jFL "CodeLayoutModel" 304 1309 := ⟨jok_13, by decide, fun C T N h => by cases h; exact Or.inl ⟨_, q2590, Or.inl rfl⟩⟩
theorem flX8_307 : jFL "CodeLayoutModel" 307 1413 := ⟨jok_14, by decide, fun C T N h => by cases h; exact Or.inl ⟨_, q2370, Or.inl rfl⟩⟩
theorem flX8_310 : jFL "CodeLayoutModel" 310 1313 := ⟨jok_13, by decide, fun C T N h => by cases h; exact Or.inl ⟨_, q2598, Or.inl rfl⟩⟩
theorem flX8_313 : jFL "CodeLayoutModel" 313 1414 := ⟨jok_14, by decide, fun C T N h => by cases h; exact Or.inl ⟨_, q2373, Or.inl rfl⟩⟩
theorem flX8_316 : jFL "CodeLayoutModel" 316 1310 := ⟨jok_13, by decide, fun C T N h => by cases h; exact Or.inl ⟨_, q2592, Or.inl rfl⟩⟩
theorem flX8_330 : jFL "CodeLayoutModel" 330 1328 := ⟨jok_13, by decide, fun C T N h => by cases h; exact Or.inl ⟨_, q2625, Or.inl rfl⟩⟩
theorem flX8_333 : jFL "CodeLayoutModel" 333 1403 := ⟨jok_14, by decide, fun C T N h => by cases h; exact Or.inl ⟨_, q2351, Or.inl rfl⟩⟩
theorem flX8_399 : jFL "CodeLayoutModel" 399 1312 := ⟨jok_13, by decide, fun C T N h => by cases h; exact Or.inl ⟨_, q2595, Or.inl rfl⟩⟩
theorem flX8_478 : jFL "CodeLayoutModel" 478 1501 := ⟨jok_15, by decide, fun C T N h => by cases h; exact Or.inl ⟨_, q2426, Or.inl rfl⟩⟩
theorem flX8_481 : jFL "CodeLayoutModel" 481 1502 := ⟨jok_15, by decide, fun C T N h => by cases h; exact Or.inl ⟨_, q2428, Or.inl rfl⟩⟩
theorem flX8_491 : jFL "CodeLayoutModel" 491 1508 := ⟨jok_15, by decide, fun C T N h => by cases h; exact Or.inl ⟨_, q2437, Or.inl rfl⟩⟩
theorem flX8_499 : jFL "CodeLayoutModel" 499 1503 := ⟨jok_15, by decide, fun C T N h => by cases h; exact Or.inl ⟨_, q2430, Or.inl rfl⟩⟩
theorem flX8_512 : jFL "CodeLayoutModel" 512 1509 := ⟨jok_15, by decide, fun C T N h => by cases h; exact Or.inl ⟨_, q2439, Or.inl rfl⟩⟩
theorem flX8_518 : jFL "CodeLayoutModel" 518 1353 := ⟨jok_13, by decide, fun C T N h => by cases h; exact Or.inl ⟨_, q2652, Or.inl rfl⟩⟩
theorem flX8_521 : jFL "CodeLayoutModel" 521 1357 := ⟨jok_13, by decide, fun C T N h => by cases h; exact Or.inl ⟨_, q2657, Or.inl rfl⟩⟩
theorem flX8_527 : jFL "CodeLayoutModel" 527 1356 := ⟨jok_13, by decide, fun C T N h => by cases h; exact Or.inl ⟨_, q2656, Or.inl rfl⟩⟩
theorem flX8_530 : jFL "CodeLayoutModel" 530 1355 := ⟨jok_13, by decide, fun C T N h => by cases h; exact Or.inl ⟨_, q2655, Or.inl rfl⟩⟩
theorem flX8_542 : jFL "CodeLayoutModel" 542 1405 := ⟨jok_14, by decide, fun C T N h => by cases h; exact Or.inl ⟨_, q2354, Or.inl rfl⟩⟩
theorem flX8_545 : jFL "CodeLayoutModel" 545 1402 := ⟨jok_14, by decide, fun C T N h => by cases h; exact Or.inl ⟨_, q2348, Or.inl rfl⟩⟩
theorem flX8_566 : jFL "CodeLayoutModel" 566 1510 := ⟨jok_15, by decide, fun C T N h => by cases h; exact Or.inl ⟨_, q2441, Or.inl rfl⟩⟩
theorem flX8_569 : jFL "CodeLayoutModel" 569 1511 := ⟨jok_15, by decide, fun C T N h => by cases h; exact Or.inl ⟨_, q2443, Or.inl rfl⟩⟩
theorem flX8_572 : jFL "CodeLayoutModel" 572 1512 := ⟨jok_15, by decide, fun C T N h => by cases h; exact Or.inl ⟨_, q2445, Or.inl rfl⟩⟩
theorem flX8_575 : jFL "CodeLayoutModel" 575 1513 := ⟨jok_15, by decide, fun C T N h => by cases h; exact Or.inl ⟨_, q2447, Or.inl rfl⟩⟩
theorem flX8_584 : jFL "CodeLayoutModel" 584 1602 := ⟨jok_16, by decide, fun C T N h => by cases h; exact Or.inl ⟨_, q2488, Or.inl rfl⟩⟩
theorem flX8_597 : jFL "CodeLayoutModel" 597 1614 := ⟨jok_16, by decide, fun C T N h => by cases h; exact Or.inl ⟨_, q2512, Or.inl rfl⟩⟩
theorem flX8_600 : jFL "CodeLayoutModel" 600 1617 := ⟨jok_16, by decide, fun C T N h => by cases h; exact Or.inl ⟨_, q2516, Or.inl rfl⟩⟩
theorem flX8_602 : jFL "CodeLayoutModel" 602 1606 := ⟨jok_16, by decide, fun C T N h => by cases h; exact Or.inl ⟨_, q2496, Or.inl rfl⟩⟩
theorem flX8_605 : jFL "CodeLayoutModel" 605 1607 := ⟨jok_16, by decide, fun C T N h => by cases h; exact Or.inl ⟨_, q2498, Or.inl rfl⟩⟩
theorem flX8_608 : jFL "CodeLayoutModel" 608 1608 := ⟨jok_16, by decide, fun C T N h => by cases h; exact Or.inl ⟨_, q2500, Or.inl rfl⟩⟩
theorem flX8_611 : jFL "CodeLayoutModel" 611 1609 := ⟨jok_16, by decide, fun C T N h => by cases h; exact Or.inl ⟨_, q2502, Or.inl rfl⟩⟩
theorem flX8_614 : jFL "CodeLayoutModel" 614 1619 := ⟨jok_16, by decide, fun C T N h => by cases h; exact Or.inl ⟨_, q2520, Or.inl rfl⟩⟩
theorem flX8_617 : jFL "CodeLayoutModel" 617 1620 := ⟨jok_16, by decide, fun C T N h => by cases h; exact Or.inl ⟨_, q2522, Or.inl rfl⟩⟩
theorem flX8_620 : jFL "CodeLayoutModel" 620 1618 := ⟨jok_16, by decide, fun C T N h => by cases h; exact Or.inl ⟨_, q2518, Or.inl rfl⟩⟩
theorem flX8_623 : jFL "CodeLayoutModel" 623 1603 := ⟨jok_16, by decide, fun C T N h => by cases h; exact Or.inl ⟨_, q2490, Or.inl rfl⟩⟩
theorem flX8_626 : jFL "CodeLayoutModel" 626 1604 := ⟨jok_16, by decide, fun C T N h => by cases h; exact Or.inl ⟨_, q2492, Or.inl rfl⟩⟩
theorem flX8_629 : jFL "CodeLayoutModel" 629 1605 := ⟨jok_16, by decide, fun C T N h => by cases h; exact Or.inl ⟨_, q2494, Or.inl rfl⟩⟩
theorem flX8_635 : jFL "CodeLayoutModel" 635 1613 := ⟨jok_16, by decide, fun C T N h => by cases h; exact Or.inl ⟨_, q2510, Or.inl rfl⟩⟩
theorem flX8_641 : jFL "CodeLayoutModel" 641 1610 := ⟨jok_16, by decide, fun C T N h => by cases h; exact Or.inl ⟨_, q2504, Or.inl rfl⟩⟩
theorem flX8_645 : jFL "CodeLayoutModel" 645 1611 := ⟨jok_16, by decide, fun C T N h => by cases h; exact Or.inl ⟨_, q2506, Or.inl rfl⟩⟩
theorem flX8_651 : jFL "CodeLayoutModel" 651 1612 := ⟨jok_16, by decide, fun C T N h => by cases h; exact Or.inl ⟨_, q2508, Or.inl rfl⟩⟩
theorem flX8_654 : jFL "CodeLayoutModel" 654 1621 := ⟨jok_16, by decide, fun C T N h => by cases h; exact Or.inl ⟨_, q2524, Or.inl rfl⟩⟩
theorem flX8_657 : jFL "CodeLayoutModel" 657 1622 := ⟨jok_16, by decide, fun C T N h => by cases h; exact Or.inl ⟨_, q2526, Or.inl rfl⟩⟩
theorem flX9_7 : jFL "CodeLayoutModel$Heads" 7 1406 := ⟨jok_14, by decide, fun C T N h => by cases h; exact Or.inl ⟨_, q2355, Or.inl rfl⟩⟩
theorem flX9_13 : jFL "CodeLayoutModel$Heads" 13 1407 := ⟨jok_14, by decide, fun C T N h => by cases h; exact Or.inl ⟨_, q2357, Or.inl rfl⟩⟩
theorem flX9_16 : jFL "CodeLayoutModel$Heads" 16 1408 := ⟨jok_14, by decide, fun C T N h => by cases h; exact Or.inl ⟨_, q2359, Or.inl rfl⟩⟩
theorem flX9_20 : jFL "CodeLayoutModel$Heads" 20 1409 := ⟨jok_14, by decide, fun C T N h => by cases h; exact Or.inl ⟨_, q2361, Or.inl rfl⟩⟩
theorem flX9_23 : jFL "CodeLayoutModel$Heads" 23 1410 := ⟨jok_14, by decide, fun C T N h => by cases h; exact Or.inl ⟨_, q2363, Or.inl rfl⟩⟩
theorem flX9_26 : jFL "CodeLayoutModel$Heads" 26 1411 := ⟨jok_14, by decide, fun C T N h => by cases h; exact Or.inl ⟨_, q2364, Or.inl rfl⟩⟩
theorem flX9_29 : jFL "CodeLayoutModel$Heads" 29 1412 := ⟨jok_14, by decide, fun C T N h => by cases h; exact Or.inl ⟨_, q2365, Or.inl rfl⟩⟩
theorem flX9_32 : jFL "CodeLayoutModel$Heads" 32 1413 := ⟨jok_14, by decide, fun C T N h => by cases h; exact Or.inl ⟨_, q2368, Or.inl rfl⟩⟩
theorem flX9_35 : jFL "CodeLayoutModel$Heads" 35 1414 := ⟨jok_14, by decide, fun C T N h => by cases h; exact Or.inl ⟨_, q2371, Or.inl rfl⟩⟩
theorem flX9_38 : jFL "CodeLayoutModel$Heads" 38 1400 := ⟨jok_14, by decide, fun C T N h => by cases h; exact Or.inl ⟨_, q2342, Or.inl rfl⟩⟩
theorem flX9_80 : jFL "CodeLayoutModel$Heads" 80 1415 := ⟨jok_14, by decide, fun C T N h => by cases h; exact Or.inl ⟨_, q2375, Or.inl rfl⟩⟩
theorem flX9_84 : jFL "CodeLayoutModel$Heads" 84 1401 := ⟨jok_14, by decide, fun C T N h => by cases h; exact Or.inl ⟨_, q2344, Or.inl rfl⟩⟩
theorem flX9_121 : jFL "CodeLayoutModel$Heads" 121 1402 := ⟨jok_14, by decide, fun C T N h => by cases h; exact Or.inl ⟨_, q2347, Or.inl rfl⟩⟩
theorem flX9_126 : jFL "CodeLayoutModel$Heads" 126 1403 := ⟨jok_14, by decide, fun C T N h => by cases h; exact Or.inl ⟨_, q2350, Or.inl rfl⟩⟩
theorem flX9_131 : jFL "CodeLayoutModel$Heads" 131 1404 := ⟨jok_14, by decide, fun C T N h => by cases h; exact Or.inl ⟨_, q2352, Or.inl rfl⟩⟩
theorem flX9_141 : jFL "CodeLayoutModel$Heads" 141 1405 := ⟨jok_14, by decide, fun C T N h => by cases h; exact Or.inl ⟨_, q2353, Or.inl rfl⟩⟩
theorem flX9_160 : jFL "CodeLayoutModel$Heads" 160 1416 := ⟨jok_14, by decide, fun C T N h => by cases h; exact Or.inl ⟨_, q2377, Or.inl rfl⟩⟩
theorem fwJ5_7 : jFW "java/util/AbstractList" 7 1800 := ⟨jok_18, by decide, fun C T N h => by cases h; exact Or.inl ⟨_, q628, Or.inl rfl⟩⟩
theorem fwJ6_9 : jFW "java/util/ArrayList" 9 1801 := ⟨jok_18, by decide, fun C T N h => by cases h; exact Or.inl ⟨_, q626, Or.inl rfl⟩⟩
theorem fwJ6_48 : jFW "java/util/ArrayList" 48 1802 := ⟨jok_18, by decide, fun C T N h => by cases h; exact Or.inl ⟨_, q627, Or.inl rfl⟩⟩
theorem fwJ6_63 : jFW "java/util/ArrayList" 63 1800 := ⟨jok_18, by decide, fun C T N h => by cases h; exact Or.inl ⟨_, q629, Or.inr q630⟩⟩
theorem fwX0_18 : jFW "CodeLayout" 18 100 := ⟨jok_1, by decide, fun C T N h => by cases h; exact Or.inl ⟨_, q642, Or.inl rfl⟩⟩
theorem fwX0_22 : jFW "CodeLayout" 22 103 := ⟨jok_1, by decide, fun C T N h => by cases h; exact Or.inl ⟨_, q645, Or.inl rfl⟩⟩
theorem fwX0_29 : jFW "CodeLayout" 29 104 := ⟨jok_1, by decide, fun C T N h => by cases h; exact Or.inl ⟨_, q646, Or.inl rfl⟩⟩
theorem fwX0_33 : jFW "CodeLayout" 33 105 := ⟨jok_1, by decide, fun C T N h => by cases h; exact Or.inl ⟨_, q647, Or.inl rfl⟩⟩
theorem fwX0_39 : jFW "CodeLayout" 39 108 := ⟨jok_1, by decide, fun C T N h => by cases h; exact Or.inl ⟨_, q650, Or.inl rfl⟩⟩
theorem fwX0_43 : jFW "CodeLayout" 43 109 := ⟨jok_1, by decide, fun C T N h => by cases h; exact Or.inl ⟨_, q651, Or.inl rfl⟩⟩
theorem fwX0_46 : jFW "CodeLayout" 46 110 := ⟨jok_1, by decide, fun C T N h => by cases h; exact Or.inl ⟨_, q652, Or.inl rfl⟩⟩
theorem fwX0_51 : jFW "CodeLayout" 51 114 := ⟨jok_1, by decide, fun C T N h => by cases h; exact Or.inl ⟨_, q656, Or.inl rfl⟩⟩
theorem fwX0_58 : jFW "CodeLayout" 58 116 := ⟨jok_1, by decide, fun C T N h => by cases h; exact Or.inl ⟨_, q658, Or.inl rfl⟩⟩
theorem fwX0_62 : jFW "CodeLayout" 62 117 := ⟨jok_1, by decide, fun C T N h => by cases h; exact Or.inl ⟨_, q659, Or.inl rfl⟩⟩
theorem fwX0_65 : jFW "CodeLayout" 65 118 := ⟨jok_1, by decide, fun C T N h => by cases h; exact Or.inl ⟨_, q660, Or.inl rfl⟩⟩
theorem fwX0_71 : jFW "CodeLayout" 71 120 := ⟨jok_1, by decide, fun C T N h => by cases h; exact Or.inl ⟨_, q662, Or.inl rfl⟩⟩
theorem fwX0_80 : jFW "CodeLayout" 80 121 := ⟨jok_1, by decide, fun C T N h => by cases h; exact Or.inl ⟨_, q663, Or.inl rfl⟩⟩
theorem fwX0_84 : jFW "CodeLayout" 84 122 := ⟨jok_1, by decide, fun C T N h => by cases h; exact Or.inl ⟨_, q664, Or.inl rfl⟩⟩
theorem fwX0_88 : jFW "CodeLayout" 88 101 := ⟨jok_1, by decide, fun C T N h => by cases h; exact Or.inl ⟨_, q643, Or.inl rfl⟩⟩
theorem fwX0_91 : jFW "CodeLayout" 91 102 := ⟨jok_1, by decide, fun C T N h => by cases h; exact Or.inl ⟨_, q644, Or.inl rfl⟩⟩
theorem fwX0_114 : jFW "CodeLayout" 114 501 := ⟨jok_5, by decide, fun C T N h => by cases h; exact Or.inl ⟨_, q469, Or.inl rfl⟩⟩
theorem fwX0_128 : jFW "CodeLayout" 128 106 := ⟨jok_1, by decide, fun C T N h => by cases h; exact Or.inl ⟨_, q648, Or.inl rfl⟩⟩
theorem fwX0_132 : jFW "CodeLayout" 132 107 := ⟨jok_1, by decide, fun C T N h => by cases h; exact Or.inl ⟨_, q649, Or.inl rfl⟩⟩
theorem fwX0_138 : jFW "CodeLayout" 138 115 := ⟨jok_1, by decide, fun C T N h => by cases h; exact Or.inl ⟨_, q657, Or.inl rfl⟩⟩
theorem fwX0_147 : jFW "CodeLayout" 147 119 := ⟨jok_1, by decide, fun C T N h => by cases h; exact Or.inl ⟨_, q661, Or.inl rfl⟩⟩
theorem fwX0_171 : jFW "CodeLayout" 171 111 := ⟨jok_1, by decide, fun C T N h => by cases h; exact Or.inl ⟨_, q653, Or.inl rfl⟩⟩
theorem fwX0_175 : jFW "CodeLayout" 175 112 := ⟨jok_1, by decide, fun C T N h => by cases h; exact Or.inl ⟨_, q654, Or.inl rfl⟩⟩
theorem fwX0_179 : jFW "CodeLayout" 179 113 := ⟨jok_1, by decide, fun C T N h => by cases h; exact Or.inl ⟨_, q655, Or.inl rfl⟩⟩
theorem fwX0_185 : jFW "CodeLayout" 185 1023 := ⟨jok_10, by decide, fun C T N h => by cases h; exact Or.inl ⟨_, q1489, Or.inl rfl⟩⟩
theorem fwX0_314 : jFW "CodeLayout" 314 123 := ⟨jok_1, by decide, fun C T N h => by cases h; exact Or.inl ⟨_, q665, Or.inl rfl⟩⟩
theorem fwX1_10 : jFW "CodeLayout$Program" 10 200 := ⟨jok_2, by decide, fun C T N h => by cases h; exact Or.inl ⟨_, q497, Or.inl rfl⟩⟩
theorem fwX1_21 : jFW "CodeLayout$Program" 21 201 := ⟨jok_2, by decide, fun C T N h => by cases h; exact Or.inl ⟨_, q498, Or.inl rfl⟩⟩
theorem fwX1_28 : jFW "CodeLayout$Program" 28 202 := ⟨jok_2, by decide, fun C T N h => by cases h; exact Or.inl ⟨_, q503, Or.inl rfl⟩⟩
theorem fwX1_32 : jFW "CodeLayout$Program" 32 204 := ⟨jok_2, by decide, fun C T N h => by cases h; exact Or.inl ⟨_, q511, Or.inl rfl⟩⟩
theorem fwX1_36 : jFW "CodeLayout$Program" 36 205 := ⟨jok_2, by decide, fun C T N h => by cases h; exact Or.inl ⟨_, q514, Or.inl rfl⟩⟩
theorem fwX1_39 : jFW "CodeLayout$Program" 39 206 := ⟨jok_2, by decide, fun C T N h => by cases h; exact Or.inl ⟨_, q517, Or.inl rfl⟩⟩
theorem fwX1_42 : jFW "CodeLayout$Program" 42 207 := ⟨jok_2, by decide, fun C T N h => by cases h; exact Or.inl ⟨_, q521, Or.inl rfl⟩⟩
theorem fwX1_45 : jFW "CodeLayout$Program" 45 208 := ⟨jok_2, by decide, fun C T N h => by cases h; exact Or.inl ⟨_, q524, Or.inl rfl⟩⟩
theorem fwX1_52 : jFW "CodeLayout$Program" 52 209 := ⟨jok_2, by decide, fun C T N h => by cases h; exact Or.inl ⟨_, q527, Or.inl rfl⟩⟩
theorem fwX1_56 : jFW "CodeLayout$Program" 56 210 := ⟨jok_2, by decide, fun C T N h => by cases h; exact Or.inl ⟨_, q529, Or.inl rfl⟩⟩
theorem fwX1_59 : jFW "CodeLayout$Program" 59 211 := ⟨jok_2, by decide, fun C T N h => by cases h; exact Or.inl ⟨_, q531, Or.inl rfl⟩⟩
theorem fwX1_62 : jFW "CodeLayout$Program" 62 212 := ⟨jok_2, by decide, fun C T N h => by cases h; exact Or.inl ⟨_, q532, Or.inl rfl⟩⟩
theorem fwX1_65 : jFW "CodeLayout$Program" 65 213 := ⟨jok_2, by decide, fun C T N h => by cases h; exact Or.inl ⟨_, q533, Or.inl rfl⟩⟩
theorem fwX1_68 : jFW "CodeLayout$Program" 68 214 := ⟨jok_2, by decide, fun C T N h => by cases h; exact Or.inl ⟨_, q536, Or.inl rfl⟩⟩
theorem fwX1_71 : jFW "CodeLayout$Program" 71 215 := ⟨jok_2, by decide, fun C T N h => by cases h; exact Or.inl ⟨_, q540, Or.inl rfl⟩⟩
theorem fwX1_74 : jFW "CodeLayout$Program" 74 216 := ⟨jok_2, by decide, fun C T N h => by cases h; exact Or.inl ⟨_, q542, Or.inl rfl⟩⟩
theorem fwX1_90 : jFW "CodeLayout$Program" 90 601 := ⟨jok_6, by decide, fun C T N h => by cases h; exact Or.inl ⟨_, q490, Or.inl rfl⟩⟩
theorem fwX1_124 : jFW "CodeLayout$Program" 124 203 := ⟨jok_2, by decide, fun C T N h => by cases h; exact Or.inl ⟨_, q508, Or.inl rfl⟩⟩
theorem fwX1_261 : jFW "CodeLayout$Program" 261 217 := ⟨jok_2, by decide, fun C T N h => by cases h; exact Or.inl ⟨_, q548, Or.inl rfl⟩⟩
theorem fwX10_9 : jFW "CodeLayoutModel$Written" 9 1501 := ⟨jok_15, by decide, fun C T N h => by cases h; exact Or.inl ⟨_, q2425, Or.inl rfl⟩⟩
theorem fwX10_15 : jFW "CodeLayoutModel$Written" 15 1503 := ⟨jok_15, by decide, fun C T N h => by cases h; exact Or.inl ⟨_, q2429, Or.inl rfl⟩⟩
theorem fwX10_18 : jFW "CodeLayoutModel$Written" 18 1504 := ⟨jok_15, by decide, fun C T N h => by cases h; exact Or.inl ⟨_, q2431, Or.inl rfl⟩⟩
theorem fwX10_22 : jFW "CodeLayoutModel$Written" 22 1505 := ⟨jok_15, by decide, fun C T N h => by cases h; exact Or.inl ⟨_, q2432, Or.inl rfl⟩⟩
theorem fwX10_26 : jFW "CodeLayoutModel$Written" 26 1506 := ⟨jok_15, by decide, fun C T N h => by cases h; exact Or.inl ⟨_, q2433, Or.inl rfl⟩⟩
theorem fwX10_29 : jFW "CodeLayoutModel$Written" 29 1507 := ⟨jok_15, by decide, fun C T N h => by cases h; exact Or.inl ⟨_, q2434, Or.inl rfl⟩⟩
theorem fwX10_32 : jFW "CodeLayoutModel$Written" 32 1500 := ⟨jok_15, by decide, fun C T N h => by cases h; exact Or.inl ⟨_, q2424, Or.inl rfl⟩⟩
theorem fwX10_36 : jFW "CodeLayoutModel$Written" 36 1510 := ⟨jok_15, by decide, fun C T N h => by cases h; exact Or.inl ⟨_, q2440, Or.inl rfl⟩⟩
theorem fwX10_40 : jFW "CodeLayoutModel$Written" 40 1511 := ⟨jok_15, by decide, fun C T N h => by cases h; exact Or.inl ⟨_, q2442, Or.inl rfl⟩⟩
theorem fwX10_43 : jFW "CodeLayoutModel$Written" 43 1512 := ⟨jok_15, by decide, fun C T N h => by cases h; exact Or.inl ⟨_, q2444, Or.inl rfl⟩⟩
theorem fwX10_46 : jFW "CodeLayoutModel$Written" 46 1513 := ⟨jok_15, by decide, fun C T N h => by cases h; exact Or.inl ⟨_, q2446, Or.inl rfl⟩⟩
theorem fwX10_76 : jFW "CodeLayoutModel$Written" 76 1508 := ⟨jok_15, by decide, fun C T N h => by cases h; exact Or.inl ⟨_, q2435, Or.inl rfl⟩⟩
theorem fwX10_116 : jFW "CodeLayoutModel$Written" 116 1509 := ⟨jok_15, by decide, fun C T N h => by cases h; exact Or.inl ⟨_, q2438, Or.inl rfl⟩⟩
theorem fwX11_9 : jFW "CodeLayoutModel$Run" 9 1603 := ⟨jok_16, by decide, fun C T N h => by cases h; exact Or.inl ⟨_, q2489, Or.inl rfl⟩⟩
theorem fwX11_15 : jFW "CodeLayoutModel$Run" 15 1604 := ⟨jok_16, by decide, fun C T N h => by cases h; exact Or.inl ⟨_, q2491, Or.inl rfl⟩⟩
theorem fwX11_19 : jFW "CodeLayoutModel$Run" 19 1605 := ⟨jok_16, by decide, fun C T N h => by cases h; exact Or.inl ⟨_, q2493, Or.inl rfl⟩⟩
theorem fwX11_24 : jFW "CodeLayoutModel$Run" 24 1610 := ⟨jok_16, by decide, fun C T N h => by cases h; exact Or.inl ⟨_, q2503, Or.inl rfl⟩⟩
theorem fwX11_27 : jFW "CodeLayoutModel$Run" 27 1611 := ⟨jok_16, by decide, fun C T N h => by cases h; exact Or.inl ⟨_, q2505, Or.inl rfl⟩⟩
theorem fwX11_30 : jFW "CodeLayoutModel$Run" 30 1612 := ⟨jok_16, by decide, fun C T N h => by cases h; exact Or.inl ⟨_, q2507, Or.inl rfl⟩⟩
theorem fwX11_33 : jFW "CodeLayoutModel$Run" 33 1613 := ⟨jok_16, by decide, fun C T N h => by cases h; exact Or.inl ⟨_, q2509, Or.inl rfl⟩⟩
theorem fwX11_36 : jFW "CodeLayoutModel$Run" 36 1621 := ⟨jok_16, by decide, fun C T N h => by cases h; exact Or.inl ⟨_, q2523, Or.inl rfl⟩⟩
theorem fwX11_39 : jFW "CodeLayoutModel$Run" 39 1622 := ⟨jok_16, by decide, fun C T N h => by cases h; exact Or.inl ⟨_, q2525, Or.inl rfl⟩⟩
theorem fwX11_42 : jFW "CodeLayoutModel$Run" 42 1600 := ⟨jok_16, by decide, fun C T N h => by cases h; exact Or.inl ⟨_, q2485, Or.inl rfl⟩⟩
theorem fwX11_46 : jFW "CodeLayoutModel$Run" 46 1601 := ⟨jok_16, by decide, fun C T N h => by cases h; exact Or.inl ⟨_, q2486, Or.inl rfl⟩⟩
theorem fwX11_50 : jFW "CodeLayoutModel$Run" 50 1602 := ⟨jok_16, by decide, fun C T N h => by cases h; exact Or.inl ⟨_, q2487, Or.inl rfl⟩⟩
theorem fwX11_56 : jFW "CodeLayoutModel$Run" 56 1606 := ⟨jok_16, by decide, fun C T N h => by cases h; exact Or.inl ⟨_, q2495, Or.inl rfl⟩⟩
theorem fwX11_59 : jFW "CodeLayoutModel$Run" 59 1607 := ⟨jok_16, by decide, fun C T N h => by cases h; exact Or.inl ⟨_, q2497, Or.inl rfl⟩⟩
theorem fwX11_62 : jFW "CodeLayoutModel$Run" 62 1608 := ⟨jok_16, by decide, fun C T N h => by cases h; exact Or.inl ⟨_, q2499, Or.inl rfl⟩⟩
theorem fwX11_65 : jFW "CodeLayoutModel$Run" 65 1609 := ⟨jok_16, by decide, fun C T N h => by cases h; exact Or.inl ⟨_, q2501, Or.inl rfl⟩⟩
theorem fwX11_77 : jFW "CodeLayoutModel$Run" 77 1614 := ⟨jok_16, by decide, fun C T N h => by cases h; exact Or.inl ⟨_, q2511, Or.inl rfl⟩⟩
theorem fwX11_80 : jFW "CodeLayoutModel$Run" 80 1615 := ⟨jok_16, by decide, fun C T N h => by cases h; exact Or.inl ⟨_, q2513, Or.inl rfl⟩⟩
theorem fwX11_83 : jFW "CodeLayoutModel$Run" 83 1616 := ⟨jok_16, by decide, fun C T N h => by cases h; exact Or.inl ⟨_, q2514, Or.inl rfl⟩⟩
theorem fwX11_86 : jFW "CodeLayoutModel$Run" 86 1617 := ⟨jok_16, by decide, fun C T N h => by cases h; exact Or.inl ⟨_, q2515, Or.inl rfl⟩⟩
theorem fwX11_89 : jFW "CodeLayoutModel$Run" 89 1619 := ⟨jok_16, by decide, fun C T N h => by cases h; exact Or.inl ⟨_, q2519, Or.inl rfl⟩⟩
theorem fwX11_92 : jFW "CodeLayoutModel$Run" 92 1620 := ⟨jok_16, by decide, fun C T N h => by cases h; exact Or.inl ⟨_, q2521, Or.inl rfl⟩⟩
theorem fwX11_107 : jFW "CodeLayoutModel$Run" 107 1623 := ⟨jok_16, by decide, fun C T N h => by cases h; exact Or.inl ⟨_, q2527, Or.inl rfl⟩⟩
theorem fwX11_115 : jFW "CodeLayoutModel$Run" 115 1618 := ⟨jok_16, by decide, fun C T N h => by cases h; exact Or.inl ⟨_, q2517, Or.inl rfl⟩⟩
theorem fwX13_7 : jFW "CodeLayout$Ordering" 7 803 := ⟨jok_8, by decide, fun C T N h => by cases h; exact Or.inl ⟨_, q1168, Or.inl rfl⟩⟩
theorem fwX13_13 : jFW "CodeLayout$Ordering" 13 804 := ⟨jok_8, by decide, fun C T N h => by cases h; exact Or.inl ⟨_, q1170, Or.inl rfl⟩⟩
theorem fwX13_17 : jFW "CodeLayout$Ordering" 17 806 := ⟨jok_8, by decide, fun C T N h => by cases h; exact Or.inl ⟨_, q1175, Or.inl rfl⟩⟩
theorem fwX13_24 : jFW "CodeLayout$Ordering" 24 807 := ⟨jok_8, by decide, fun C T N h => by cases h; exact Or.inl ⟨_, q1176, Or.inl rfl⟩⟩
theorem fwX13_28 : jFW "CodeLayout$Ordering" 28 808 := ⟨jok_8, by decide, fun C T N h => by cases h; exact Or.inl ⟨_, q1177, Or.inl rfl⟩⟩
theorem fwX13_31 : jFW "CodeLayout$Ordering" 31 809 := ⟨jok_8, by decide, fun C T N h => by cases h; exact Or.inl ⟨_, q1178, Or.inl rfl⟩⟩
theorem fwX13_34 : jFW "CodeLayout$Ordering" 34 810 := ⟨jok_8, by decide, fun C T N h => by cases h; exact Or.inl ⟨_, q1179, Or.inl rfl⟩⟩
theorem fwX13_37 : jFW "CodeLayout$Ordering" 37 811 := ⟨jok_8, by decide, fun C T N h => by cases h; exact Or.inl ⟨_, q1180, Or.inl rfl⟩⟩
theorem fwX13_40 : jFW "CodeLayout$Ordering" 40 812 := ⟨jok_8, by decide, fun C T N h => by cases h; exact Or.inl ⟨_, q1181, Or.inl rfl⟩⟩
theorem fwX13_43 : jFW "CodeLayout$Ordering" 43 813 := ⟨jok_8, by decide, fun C T N h => by cases h; exact Or.inl ⟨_, q1182, Or.inl rfl⟩⟩
theorem fwX13_46 : jFW "CodeLayout$Ordering" 46 814 := ⟨jok_8, by decide, fun C T N h => by cases h; exact Or.inl ⟨_, q1183, Or.inl rfl⟩⟩
theorem fwX13_49 : jFW "CodeLayout$Ordering" 49 815 := ⟨jok_8, by decide, fun C T N h => by cases h; exact Or.inl ⟨_, q1184, Or.inl rfl⟩⟩
theorem fwX13_52 : jFW "CodeLayout$Ordering" 52 816 := ⟨jok_8, by decide, fun C T N h => by cases h; exact Or.inl ⟨_, q1185, Or.inl rfl⟩⟩
theorem fwX13_55 : jFW "CodeLayout$Ordering" 55 817 := ⟨jok_8, by decide, fun C T N h => by cases h; exact Or.inl ⟨_, q1186, Or.inl rfl⟩⟩
theorem fwX13_58 : jFW "CodeLayout$Ordering" 58 818 := ⟨jok_8, by decide, fun C T N h => by cases h; exact Or.inl ⟨_, q1187, Or.inl rfl⟩⟩
theorem fwX13_61 : jFW "CodeLayout$Ordering" 61 819 := ⟨jok_8, by decide, fun C T N h => by cases h; exact Or.inl ⟨_, q1188, Or.inl rfl⟩⟩
theorem fwX13_64 : jFW "CodeLayout$Ordering" 64 820 := ⟨jok_8, by decide, fun C T N h => by cases h; exact Or.inl ⟨_, q1189, Or.inl rfl⟩⟩
theorem fwX13_67 : jFW "CodeLayout$Ordering" 67 821 := ⟨jok_8, by decide, fun C T N h => by cases h; exact Or.inl ⟨_, q1190, Or.inl rfl⟩⟩
theorem fwX13_70 : jFW "CodeLayout$Ordering" 70 822 := ⟨jok_8, by decide, fun C T N h => by cases h; exact Or.inl ⟨_, q1191, Or.inl rfl⟩⟩
theorem fwX13_73 : jFW "CodeLayout$Ordering" 73 823 := ⟨jok_8, by decide, fun C T N h => by cases h; exact Or.inl ⟨_, q1192, Or.inl rfl⟩⟩
theorem fwX13_76 : jFW "CodeLayout$Ordering" 76 824 := ⟨jok_8, by decide, fun C T N h => by cases h; exact Or.inl ⟨_, q1193, Or.inl rfl⟩⟩
theorem fwX13_79 : jFW "CodeLayout$Ordering" 79 825 := ⟨jok_8, by decide, fun C T N h => by cases h; exact Or.inl ⟨_, q1194, Or.inl rfl⟩⟩
theorem fwX13_82 : jFW "CodeLayout$Ordering" 82 826 := ⟨jok_8, by decide, fun C T N h => by cases h; exact Or.inl ⟨_, q1195, Or.inl rfl⟩⟩
theorem fwX13_85 : jFW "CodeLayout$Ordering" 85 827 := ⟨jok_8, by decide, fun C T N h => by cases h; exact Or.inl ⟨_, q1196, Or.inl rfl⟩⟩
theorem fwX13_88 : jFW "CodeLayout$Ordering" 88 828 := ⟨jok_8, by decide, fun C T N h => by cases h; exact Or.inl ⟨_, q1197, Or.inl rfl⟩⟩
theorem fwX13_91 : jFW "CodeLayout$Ordering" 91 800 := ⟨jok_8, by decide, fun C T N h => by cases h; exact Or.inl ⟨_, q1165, Or.inl rfl⟩⟩
theorem fwX13_105 : jFW "CodeLayout$Ordering" 105 801 := ⟨jok_8, by decide, fun C T N h => by cases h; exact Or.inl ⟨_, q1166, Or.inl rfl⟩⟩
theorem fwX13_109 : jFW "CodeLayout$Ordering" 109 802 := ⟨jok_8, by decide, fun C T N h => by cases h; exact Or.inl ⟨_, q1167, Or.inl rfl⟩⟩
theorem fwX13_146 : jFW "CodeLayout$Ordering" 146 601 := ⟨jok_6, by decide, fun C T N h => by cases h; exact Or.inl ⟨_, q491, Or.inl rfl⟩⟩
theorem fwX13_186 : jFW "CodeLayout$Ordering" 186 805 := ⟨jok_8, by decide, fun C T N h => by cases h; exact Or.inl ⟨_, q1173, Or.inl rfl⟩⟩
theorem fwX14_9 : jFW "CodeLayout$Writing" 9 905 := ⟨jok_9, by decide, fun C T N h => by cases h; exact Or.inl ⟨_, q1269, Or.inl rfl⟩⟩
theorem fwX14_15 : jFW "CodeLayout$Writing" 15 906 := ⟨jok_9, by decide, fun C T N h => by cases h; exact Or.inl ⟨_, q1271, Or.inl rfl⟩⟩
theorem fwX14_18 : jFW "CodeLayout$Writing" 18 907 := ⟨jok_9, by decide, fun C T N h => by cases h; exact Or.inl ⟨_, q1272, Or.inl rfl⟩⟩
theorem fwX14_22 : jFW "CodeLayout$Writing" 22 908 := ⟨jok_9, by decide, fun C T N h => by cases h; exact Or.inl ⟨_, q1273, Or.inl rfl⟩⟩
theorem fwX14_26 : jFW "CodeLayout$Writing" 26 913 := ⟨jok_9, by decide, fun C T N h => by cases h; exact Or.inl ⟨_, q1280, Or.inl rfl⟩⟩
theorem fwX14_30 : jFW "CodeLayout$Writing" 30 900 := ⟨jok_9, by decide, fun C T N h => by cases h; exact Or.inl ⟨_, q1264, Or.inl rfl⟩⟩
theorem fwX14_34 : jFW "CodeLayout$Writing" 34 901 := ⟨jok_9, by decide, fun C T N h => by cases h; exact Or.inl ⟨_, q1265, Or.inl rfl⟩⟩
theorem fwX14_43 : jFW "CodeLayout$Writing" 43 902 := ⟨jok_9, by decide, fun C T N h => by cases h; exact Or.inl ⟨_, q1266, Or.inl rfl⟩⟩
theorem fwX14_46 : jFW "CodeLayout$Writing" 46 903 := ⟨jok_9, by decide, fun C T N h => by cases h; exact Or.inl ⟨_, q1267, Or.inl rfl⟩⟩
theorem fwX14_49 : jFW "CodeLayout$Writing" 49 904 := ⟨jok_9, by decide, fun C T N h => by cases h; exact Or.inl ⟨_, q1268, Or.inl rfl⟩⟩
theorem fwX14_59 : jFW "CodeLayout$Writing" 59 909 := ⟨jok_9, by decide, fun C T N h => by cases h; exact Or.inl ⟨_, q1274, Or.inl rfl⟩⟩
theorem fwX14_107 : jFW "CodeLayout$Writing" 107 910 := ⟨jok_9, by decide, fun C T N h => by cases h; exact Or.inl ⟨_, q1275, Or.inl rfl⟩⟩
theorem fwX14_114 : jFW "CodeLayout$Writing" 114 911 := ⟨jok_9, by decide, fun C T N h => by cases h; exact Or.inl ⟨_, q1276, Or.inl rfl⟩⟩
theorem fwX14_120 : jFW "CodeLayout$Writing" 120 912 := ⟨jok_9, by decide, fun C T N h => by cases h; exact Or.inl ⟨_, q1278, Or.inl rfl⟩⟩
theorem fwX14_138 : jFW "CodeLayout$Writing" 138 920 := ⟨jok_9, by decide, fun C T N h => by cases h; exact Or.inl ⟨_, q1292, Or.inl rfl⟩⟩
theorem fwX14_141 : jFW "CodeLayout$Writing" 141 919 := ⟨jok_9, by decide, fun C T N h => by cases h; exact Or.inl ⟨_, q1290, Or.inl rfl⟩⟩
theorem fwX14_152 : jFW "CodeLayout$Writing" 152 915 := ⟨jok_9, by decide, fun C T N h => by cases h; exact Or.inl ⟨_, q1282, Or.inl rfl⟩⟩
theorem fwX14_155 : jFW "CodeLayout$Writing" 155 916 := ⟨jok_9, by decide, fun C T N h => by cases h; exact Or.inl ⟨_, q1284, Or.inl rfl⟩⟩
theorem fwX14_158 : jFW "CodeLayout$Writing" 158 917 := ⟨jok_9, by decide, fun C T N h => by cases h; exact Or.inl ⟨_, q1286, Or.inl rfl⟩⟩
theorem fwX14_161 : jFW "CodeLayout$Writing" 161 918 := ⟨jok_9, by decide, fun C T N h => by cases h; exact Or.inl ⟨_, q1288, Or.inl rfl⟩⟩
theorem fwX14_223 : jFW "CodeLayout$Writing" 223 914 := ⟨jok_9, by decide, fun C T N h => by cases h; exact Or.inl ⟨_, q1281, Or.inl rfl⟩⟩
theorem fwX15_12 : jFW "CodeLayout$Machine" 12 1004 := ⟨jok_10, by decide, fun C T N h => by cases h; exact Or.inl ⟨_, q1453, Or.inl rfl⟩⟩
theorem fwX15_18 : jFW "CodeLayout$Machine" 18 1007 := ⟨jok_10, by decide, fun C T N h => by cases h; exact Or.inl ⟨_, q1457, Or.inl rfl⟩⟩
theorem fwX15_22 : jFW "CodeLayout$Machine" 22 1008 := ⟨jok_10, by decide, fun C T N h => by cases h; exact Or.inl ⟨_, q1459, Or.inl rfl⟩⟩
theorem fwX15_26 : jFW "CodeLayout$Machine" 26 1009 := ⟨jok_10, by decide, fun C T N h => by cases h; exact Or.inl ⟨_, q1461, Or.inl rfl⟩⟩
theorem fwX15_29 : jFW "CodeLayout$Machine" 29 1020 := ⟨jok_10, by decide, fun C T N h => by cases h; exact Or.inl ⟨_, q1482, Or.inl rfl⟩⟩
theorem fwX15_32 : jFW "CodeLayout$Machine" 32 1021 := ⟨jok_10, by decide, fun C T N h => by cases h; exact Or.inl ⟨_, q1484, Or.inl rfl⟩⟩
theorem fwX15_35 : jFW "CodeLayout$Machine" 35 1022 := ⟨jok_10, by decide, fun C T N h => by cases h; exact Or.inl ⟨_, q1486, Or.inl rfl⟩⟩
theorem fwX15_39 : jFW "CodeLayout$Machine" 39 1000 := ⟨jok_10, by decide, fun C T N h => by cases h; exact Or.inl ⟨_, q1449, Or.inl rfl⟩⟩
theorem fwX15_43 : jFW "CodeLayout$Machine" 43 1001 := ⟨jok_10, by decide, fun C T N h => by cases h; exact Or.inl ⟨_, q1450, Or.inl rfl⟩⟩
theorem fwX15_47 : jFW "CodeLayout$Machine" 47 1002 := ⟨jok_10, by decide, fun C T N h => by cases h; exact Or.inl ⟨_, q1451, Or.inl rfl⟩⟩
theorem fwX15_51 : jFW "CodeLayout$Machine" 51 1003 := ⟨jok_10, by decide, fun C T N h => by cases h; exact Or.inl ⟨_, q1452, Or.inl rfl⟩⟩
theorem fwX15_60 : jFW "CodeLayout$Machine" 60 1005 := ⟨jok_10, by decide, fun C T N h => by cases h; exact Or.inl ⟨_, q1454, Or.inl rfl⟩⟩
theorem fwX15_64 : jFW "CodeLayout$Machine" 64 1006 := ⟨jok_10, by decide, fun C T N h => by cases h; exact Or.inl ⟨_, q1456, Or.inl rfl⟩⟩
theorem fwX15_68 : jFW "CodeLayout$Machine" 68 1023 := ⟨jok_10, by decide, fun C T N h => by cases h; exact Or.inl ⟨_, q1488, Or.inl rfl⟩⟩
theorem fwX15_87 : jFW "CodeLayout$Machine" 87 1010 := ⟨jok_10, by decide, fun C T N h => by cases h; exact Or.inl ⟨_, q1463, Or.inl rfl⟩⟩
theorem fwX15_90 : jFW "CodeLayout$Machine" 90 1011 := ⟨jok_10, by decide, fun C T N h => by cases h; exact Or.inl ⟨_, q1465, Or.inl rfl⟩⟩
theorem fwX15_93 : jFW "CodeLayout$Machine" 93 1012 := ⟨jok_10, by decide, fun C T N h => by cases h; exact Or.inl ⟨_, q1467, Or.inl rfl⟩⟩
theorem fwX15_96 : jFW "CodeLayout$Machine" 96 1013 := ⟨jok_10, by decide, fun C T N h => by cases h; exact Or.inl ⟨_, q1469, Or.inl rfl⟩⟩
theorem fwX15_99 : jFW "CodeLayout$Machine" 99 1015 := ⟨jok_10, by decide, fun C T N h => by cases h; exact Or.inl ⟨_, q1472, Or.inl rfl⟩⟩
theorem fwX15_102 : jFW "CodeLayout$Machine" 102 1016 := ⟨jok_10, by decide, fun C T N h => by cases h; exact Or.inl ⟨_, q1474, Or.inl rfl⟩⟩
theorem fwX15_105 : jFW "CodeLayout$Machine" 105 1017 := ⟨jok_10, by decide, fun C T N h => by cases h; exact Or.inl ⟨_, q1476, Or.inl rfl⟩⟩
theorem fwX15_108 : jFW "CodeLayout$Machine" 108 1018 := ⟨jok_10, by decide, fun C T N h => by cases h; exact Or.inl ⟨_, q1478, Or.inl rfl⟩⟩
theorem fwX15_134 : jFW "CodeLayout$Machine" 134 1014 := ⟨jok_10, by decide, fun C T N h => by cases h; exact Or.inl ⟨_, q1471, Or.inl rfl⟩⟩
theorem fwX15_137 : jFW "CodeLayout$Machine" 137 1019 := ⟨jok_10, by decide, fun C T N h => by cases h; exact Or.inl ⟨_, q1480, Or.inl rfl⟩⟩
theorem fwX16_10 : jFW "CodeLayout$Halt" 10 1101 := ⟨jok_11, by decide, fun C T N h => by cases h; exact Or.inl ⟨_, q1414, Or.inl rfl⟩⟩
theorem fwX16_16 : jFW "CodeLayout$Halt" 16 1100 := ⟨jok_11, by decide, fun C T N h => by cases h; exact Or.inl ⟨_, q1412, Or.inl rfl⟩⟩
theorem fwX17_12 : jFW "CodeLayout$Memory" 12 1202 := ⟨jok_12, by decide, fun C T N h => by cases h; exact Or.inl ⟨_, q1429, Or.inl rfl⟩⟩
theorem fwX17_16 : jFW "CodeLayout$Memory" 16 1203 := ⟨jok_12, by decide, fun C T N h => by cases h; exact Or.inl ⟨_, q1430, Or.inl rfl⟩⟩
theorem fwX17_20 : jFW "CodeLayout$Memory" 20 1204 := ⟨jok_12, by decide, fun C T N h => by cases h; exact Or.inl ⟨_, q1431, Or.inl rfl⟩⟩
theorem fwX17_23 : jFW "CodeLayout$Memory" 23 1205 := ⟨jok_12, by decide, fun C T N h => by cases h; exact Or.inl ⟨_, q1432, Or.inl rfl⟩⟩
theorem fwX17_26 : jFW "CodeLayout$Memory" 26 1206 := ⟨jok_12, by decide, fun C T N h => by cases h; exact Or.inl ⟨_, q1433, Or.inl rfl⟩⟩
theorem fwX17_29 : jFW "CodeLayout$Memory" 29 1200 := ⟨jok_12, by decide, fun C T N h => by cases h; exact Or.inl ⟨_, q1427, Or.inl rfl⟩⟩
theorem fwX17_33 : jFW "CodeLayout$Memory" 33 1201 := ⟨jok_12, by decide, fun C T N h => by cases h; exact Or.inl ⟨_, q1428, Or.inl rfl⟩⟩
theorem fwX2_10 : jFW "CodeLayout$Trouble" 10 302 := ⟨jok_3, by decide, fun C T N h => by cases h; exact Or.inl ⟨_, q346, Or.inl rfl⟩⟩
theorem fwX2_16 : jFW "CodeLayout$Trouble" 16 300 := ⟨jok_3, by decide, fun C T N h => by cases h; exact Or.inl ⟨_, q341, Or.inl rfl⟩⟩
theorem fwX2_20 : jFW "CodeLayout$Trouble" 20 301 := ⟨jok_3, by decide, fun C T N h => by cases h; exact Or.inl ⟨_, q344, Or.inl rfl⟩⟩
theorem fwX3_9 : jFW "CodeLayout$Shape" 9 407 := ⟨jok_4, by decide, fun C T N h => by cases h; exact Or.inl ⟨_, q375, Or.inl rfl⟩⟩
theorem fwX3_15 : jFW "CodeLayout$Shape" 15 408 := ⟨jok_4, by decide, fun C T N h => by cases h; exact Or.inl ⟨_, q377, Or.inl rfl⟩⟩
theorem fwX3_19 : jFW "CodeLayout$Shape" 19 409 := ⟨jok_4, by decide, fun C T N h => by cases h; exact Or.inl ⟨_, q380, Or.inl rfl⟩⟩
theorem fwX3_22 : jFW "CodeLayout$Shape" 22 410 := ⟨jok_4, by decide, fun C T N h => by cases h; exact Or.inl ⟨_, q382, Or.inl rfl⟩⟩
theorem fwX3_25 : jFW "CodeLayout$Shape" 25 411 := ⟨jok_4, by decide, fun C T N h => by cases h; exact Or.inl ⟨_, q385, Or.inl rfl⟩⟩
theorem fwX3_28 : jFW "CodeLayout$Shape" 28 412 := ⟨jok_4, by decide, fun C T N h => by cases h; exact Or.inl ⟨_, q389, Or.inl rfl⟩⟩
theorem fwX3_31 : jFW "CodeLayout$Shape" 31 413 := ⟨jok_4, by decide, fun C T N h => by cases h; exact Or.inl ⟨_, q390, Or.inl rfl⟩⟩
theorem fwX3_34 : jFW "CodeLayout$Shape" 34 414 := ⟨jok_4, by decide, fun C T N h => by cases h; exact Or.inl ⟨_, q393, Or.inl rfl⟩⟩
theorem fwX3_37 : jFW "CodeLayout$Shape" 37 415 := ⟨jok_4, by decide, fun C T N h => by cases h; exact Or.inl ⟨_, q396, Or.inl rfl⟩⟩
theorem fwX3_40 : jFW "CodeLayout$Shape" 40 416 := ⟨jok_4, by decide, fun C T N h => by cases h; exact Or.inl ⟨_, q397, Or.inl rfl⟩⟩
theorem fwX3_43 : jFW "CodeLayout$Shape" 43 417 := ⟨jok_4, by decide, fun C T N h => by cases h; exact Or.inl ⟨_, q398, Or.inl rfl⟩⟩
theorem fwX3_46 : jFW "CodeLayout$Shape" 46 420 := ⟨jok_4, by decide, fun C T N h => by cases h; exact Or.inl ⟨_, q405, Or.inl rfl⟩⟩
theorem fwX3_49 : jFW "CodeLayout$Shape" 49 421 := ⟨jok_4, by decide, fun C T N h => by cases h; exact Or.inl ⟨_, q406, Or.inl rfl⟩⟩
theorem fwX3_53 : jFW "CodeLayout$Shape" 53 400 := ⟨jok_4, by decide, fun C T N h => by cases h; exact Or.inl ⟨_, q360, Or.inl rfl⟩⟩
theorem fwX3_57 : jFW "CodeLayout$Shape" 57 401 := ⟨jok_4, by decide, fun C T N h => by cases h; exact Or.inl ⟨_, q361, Or.inl rfl⟩⟩
theorem fwX3_64 : jFW "CodeLayout$Shape" 64 402 := ⟨jok_4, by decide, fun C T N h => by cases h; exact Or.inl ⟨_, q363, Or.inl rfl⟩⟩
theorem fwX3_78 : jFW "CodeLayout$Shape" 78 403 := ⟨jok_4, by decide, fun C T N h => by cases h; exact Or.inl ⟨_, q364, Or.inl rfl⟩⟩
theorem fwX3_83 : jFW "CodeLayout$Shape" 83 404 := ⟨jok_4, by decide, fun C T N h => by cases h; exact Or.inl ⟨_, q368, Or.inl rfl⟩⟩
theorem fwX3_138 : jFW "CodeLayout$Shape" 138 406 := ⟨jok_4, by decide, fun C T N h => by cases h; exact Or.inl ⟨_, q374, Or.inl rfl⟩⟩
theorem fwX3_143 : jFW "CodeLayout$Shape" 143 405 := ⟨jok_4, by decide, fun C T N h => by cases h; exact Or.inl ⟨_, q372, Or.inl rfl⟩⟩
theorem fwX3_167 : jFW "CodeLayout$Shape" 167 418 := ⟨jok_4, by decide, fun C T N h => by cases h; exact Or.inl ⟨_, q402, Or.inl rfl⟩⟩
theorem fwX3_170 : jFW "CodeLayout$Shape" 170 419 := ⟨jok_4, by decide, fun C T N h => by cases h; exact Or.inl ⟨_, q404, Or.inl rfl⟩⟩
theorem fwX5_10 : jFW "CodeLayout$Held" 10 500 := ⟨jok_5, by decide, fun C T N h => by cases h; exact Or.inl ⟨_, q465, Or.inl rfl⟩⟩
theorem fwX6_7 : jFW "CodeLayout$Row" 7 600 := ⟨jok_6, by decide, fun C T N h => by cases h; exact Or.inl ⟨_, q482, Or.inl rfl⟩⟩
theorem fwX6_13 : jFW "CodeLayout$Row" 13 601 := ⟨jok_6, by decide, fun C T N h => by cases h; exact Or.inl ⟨_, q488, Or.inl rfl⟩⟩
theorem fwX7_10 : jFW "CodeLayout$Counts" 10 700 := ⟨jok_7, by decide, fun C T N h => by cases h; exact Or.inl ⟨_, q594, Or.inl rfl⟩⟩
theorem fwX7_16 : jFW "CodeLayout$Counts" 16 701 := ⟨jok_7, by decide, fun C T N h => by cases h; exact Or.inl ⟨_, q596, Or.inl rfl⟩⟩
theorem fwX7_19 : jFW "CodeLayout$Counts" 19 702 := ⟨jok_7, by decide, fun C T N h => by cases h; exact Or.inl ⟨_, q598, Or.inl rfl⟩⟩
theorem fwX7_23 : jFW "CodeLayout$Counts" 23 703 := ⟨jok_7, by decide, fun C T N h => by cases h; exact Or.inl ⟨_, q600, Or.inl rfl⟩⟩
theorem fwX7_27 : jFW "CodeLayout$Counts" 27 601 := ⟨jok_6, by decide, fun C T N h => by cases h; exact Or.inl ⟨_, q489, Or.inl rfl⟩⟩
theorem fwX8_10 : jFW "CodeLayoutModel" 10 1300 := ⟨jok_13, by decide, fun C T N h => by cases h; exact Or.inl ⟨_, q2577, Or.inl rfl⟩⟩
theorem fwX8_14 : jFW "CodeLayoutModel" 14 1303 := ⟨jok_13, by decide, fun C T N h => by cases h; exact Or.inl ⟨_, q2580, Or.inl rfl⟩⟩
theorem fwX8_17 : jFW "CodeLayoutModel" 17 1304 := ⟨jok_13, by decide, fun C T N h => by cases h; exact Or.inl ⟨_, q2582, Or.inl rfl⟩⟩
theorem fwX8_23 : jFW "CodeLayoutModel" 23 1305 := ⟨jok_13, by decide, fun C T N h => by cases h; exact Or.inl ⟨_, q2583, Or.inl rfl⟩⟩
theorem fwX8_27 : jFW "CodeLayoutModel" 27 1306 := ⟨jok_13, by decide, fun C T N h => by cases h; exact Or.inl ⟨_, q2586, Or.inl rfl⟩⟩
theorem fwX8_32 : jFW "CodeLayoutModel" 32 1314 := ⟨jok_13, by decide, fun C T N h => by cases h; exact Or.inl ⟨_, q2599, Or.inl rfl⟩⟩
theorem fwX8_36 : jFW "CodeLayoutModel" 36 1315 := ⟨jok_13, by decide, fun C T N h => by cases h; exact Or.inl ⟨_, q2600, Or.inl rfl⟩⟩
theorem fwX8_40 : jFW "CodeLayoutModel" 40 1316 := ⟨jok_13, by decide, fun C T N h => by cases h; exact Or.inl ⟨_, q2603, Or.inl rfl⟩⟩
theorem fwX8_43 : jFW "CodeLayoutModel" 43 1317 := ⟨jok_13, by decide, fun C T N h => by cases h; exact Or.inl ⟨_, q2606, Or.inl rfl⟩⟩
theorem fwX8_46 : jFW "CodeLayoutModel" 46 1318 := ⟨jok_13, by decide, fun C T N h => by cases h; exact Or.inl ⟨_, q2609, Or.inl rfl⟩⟩
theorem fwX8_50 : jFW "CodeLayoutModel" 50 1319 := ⟨jok_13, by decide, fun C T N h => by cases h; exact Or.inl ⟨_, q2610, Or.inl rfl⟩⟩
theorem fwX8_53 : jFW "CodeLayoutModel" 53 1320 := ⟨jok_13, by decide, fun C T N h => by cases h; exact Or.inl ⟨_, q2611, Or.inl rfl⟩⟩
theorem fwX8_56 : jFW "CodeLayoutModel" 56 1321 := ⟨jok_13, by decide, fun C T N h => by cases h; exact Or.inl ⟨_, q2612, Or.inl rfl⟩⟩
theorem fwX8_59 : jFW "CodeLayoutModel" 59 1322 := ⟨jok_13, by decide, fun C T N h => by cases h; exact Or.inl ⟨_, q2613, Or.inl rfl⟩⟩
theorem fwX8_62 : jFW "CodeLayoutModel" 62 1323 := ⟨jok_13, by decide, fun C T N h => by cases h; exact Or.inl ⟨_, q2616, Or.inl rfl⟩⟩
theorem fwX8_65 : jFW "CodeLayoutModel" 65 1324 := ⟨jok_13, by decide, fun C T N h => by cases h; exact Or.inl ⟨_, q2619, Or.inl rfl⟩⟩
theorem fwX8_68 : jFW "CodeLayoutModel" 68 1325 := ⟨jok_13, by decide, fun C T N h => by cases h; exact Or.inl ⟨_, q2620, Or.inl rfl⟩⟩
theorem fwX8_71 : jFW "CodeLayoutModel" 71 1326 := ⟨jok_13, by decide, fun C T N h => by cases h; exact Or.inl ⟨_, q2622, Or.inl rfl⟩⟩
theorem fwX8_74 : jFW "CodeLayoutModel" 74 1327 := ⟨jok_13, by decide, fun C T N h => by cases h; exact Or.inl ⟨_, q2624, Or.inl rfl⟩⟩
theorem fwX8_77 : jFW "CodeLayoutModel" 77 1330 := ⟨jok_13, by decide, fun C T N h => by cases h; exact Or.inl ⟨_, q2627, Or.inl rfl⟩⟩
theorem fwX8_80 : jFW "CodeLayoutModel" 80 1331 := ⟨jok_13, by decide, fun C T N h => by cases h; exact Or.inl ⟨_, q2628, Or.inl rfl⟩⟩
theorem fwX8_83 : jFW "CodeLayoutModel" 83 1332 := ⟨jok_13, by decide, fun C T N h => by cases h; exact Or.inl ⟨_, q2629, Or.inl rfl⟩⟩
theorem fwX8_86 : jFW "CodeLayoutModel" 86 1333 := ⟨jok_13, by decide, fun C T N h => by cases h; exact Or.inl ⟨_, q2630, Or.inl rfl⟩⟩
theorem fwX8_90 : jFW "CodeLayoutModel" 90 1334 := ⟨jok_13, by decide, fun C T N h => by cases h; exact Or.inl ⟨_, q2631, Or.inl rfl⟩⟩
theorem fwX8_93 : jFW "CodeLayoutModel" 93 1335 := ⟨jok_13, by decide, fun C T N h => by cases h; exact Or.inl ⟨_, q2632, Or.inl rfl⟩⟩
theorem fwX8_96 : jFW "CodeLayoutModel" 96 1336 := ⟨jok_13, by decide, fun C T N h => by cases h; exact Or.inl ⟨_, q2633, Or.inl rfl⟩⟩
theorem fwX8_99 : jFW "CodeLayoutModel" 99 1337 := ⟨jok_13, by decide, fun C T N h => by cases h; exact Or.inl ⟨_, q2634, Or.inl rfl⟩⟩
theorem fwX8_102 : jFW "CodeLayoutModel" 102 1338 := ⟨jok_13, by decide, fun C T N h => by cases h; exact Or.inl ⟨_, q2635, Or.inl rfl⟩⟩
theorem fwX8_105 : jFW "CodeLayoutModel" 105 1339 := ⟨jok_13, by decide, fun C T N h => by cases h; exact Or.inl ⟨_, q2636, Or.inl rfl⟩⟩
theorem fwX8_108 : jFW "CodeLayoutModel" 108 1340 := ⟨jok_13, by decide, fun C T N h => by cases h; exact Or.inl ⟨_, q2637, Or.inl rfl⟩⟩
theorem fwX8_111 : jFW "CodeLayoutModel" 111 1341 := ⟨jok_13, by decide, fun C T N h => by cases h; exact Or.inl ⟨_, q2638, Or.inl rfl⟩⟩
theorem fwX8_114 : jFW "CodeLayoutModel" 114 1342 := ⟨jok_13, by decide, fun C T N h => by cases h; exact Or.inl ⟨_, q2639, Or.inl rfl⟩⟩
theorem fwX8_117 : jFW "CodeLayoutModel" 117 1343 := ⟨jok_13, by decide, fun C T N h => by cases h; exact Or.inl ⟨_, q2640, Or.inl rfl⟩⟩
theorem fwX8_120 : jFW "CodeLayoutModel" 120 1344 := ⟨jok_13, by decide, fun C T N h => by cases h; exact Or.inl ⟨_, q2641, Or.inl rfl⟩⟩
theorem fwX8_123 : jFW "CodeLayoutModel" 123 1345 := ⟨jok_13, by decide, fun C T N h => by cases h; exact Or.inl ⟨_, q2642, Or.inl rfl⟩⟩
theorem fwX8_126 : jFW "CodeLayoutModel" 126 1346 := ⟨jok_13, by decide, fun C T N h => by cases h; exact Or.inl ⟨_, q2643, Or.inl rfl⟩⟩
theorem fwX8_129 : jFW "CodeLayoutModel" 129 1347 := ⟨jok_13, by decide, fun C T N h => by cases h; exact Or.inl ⟨_, q2644, Or.inl rfl⟩⟩
theorem fwX8_132 : jFW "CodeLayoutModel" 132 1348 := ⟨jok_13, by decide, fun C T N h => by cases h; exact Or.inl ⟨_, q2645, Or.inl rfl⟩⟩
theorem fwX8_135 : jFW "CodeLayoutModel" 135 1349 := ⟨jok_13, by decide, fun C T N h => by cases h; exact Or.inl ⟨_, q2646, Or.inl rfl⟩⟩
theorem fwX8_143 : jFW "CodeLayoutModel" 143 1350 := ⟨jok_13, by decide, fun C T N h => by cases h; exact Or.inl ⟨_, q2647, Or.inl rfl⟩⟩
theorem fwX8_147 : jFW "CodeLayoutModel" 147 1351 := ⟨jok_13, by decide, fun C T N h => by cases h; exact Or.inl ⟨_, q2649, Or.inl rfl⟩⟩
theorem fwX8_151 : jFW "CodeLayoutModel" 151 1354 := ⟨jok_13, by decide, fun C T N h => by cases h; exact Or.inl ⟨_, q2653, Or.inl rfl⟩⟩
theorem fwX8_154 : jFW "CodeLayoutModel" 154 1358 := ⟨jok_13, by decide, fun C T N h => by cases h; exact Or.inl ⟨_, q2658, Or.inl rfl⟩⟩
theorem fwX8_157 : jFW "CodeLayoutModel" 157 1359 := ⟨jok_13, by decide, fun C T N h => by cases h; exact Or.inl ⟨_, q2659, Or.inl rfl⟩⟩
theorem fwX8_160 : jFW "CodeLayoutModel" 160 1360 := ⟨jok_13, by decide, fun C T N h => by cases h; exact Or.inl ⟨_, q2660, Or.inl rfl⟩⟩
theorem fwX8_168 : jFW "CodeLayoutModel" 168 1361 := ⟨jok_13, by decide, fun C T N h => by cases h; exact Or.inl ⟨_, q2661, Or.inl rfl⟩⟩
theorem fwX8_172 : jFW "CodeLayoutModel" 172 1362 := ⟨jok_13, by decide, fun C T N h => by cases h; exact Or.inl ⟨_, q2662, Or.inl rfl⟩⟩
theorem fwX8_175 : jFW "CodeLayoutModel" 175 1363 := ⟨jok_13, by decide, fun C T N h => by cases h; exact Or.inl ⟨_, q2663, Or.inl rfl⟩⟩
theorem fwX8_178 : jFW "CodeLayoutModel" 178 1301 := ⟨jok_13, by decide, fun C T N h => by cases h; exact Or.inl ⟨_, q2578, Or.inl rfl⟩⟩
theorem fwX8_182 : jFW "CodeLayoutModel" 182 1302 := ⟨jok_13, by decide, fun C T N h => by cases h; exact Or.inl ⟨_, q2579, Or.inl rfl⟩⟩
theorem fwX8_251 : jFW "CodeLayoutModel" 251 1400 := ⟨jok_14, by decide, fun C T N h => by cases h; exact Or.inl ⟨_, q2343, Or.inl rfl⟩⟩
theorem fwX8_254 : jFW "CodeLayoutModel" 254 1401 := ⟨jok_14, by decide, fun C T N h => by cases h; exact Or.inl ⟨_, q2345, Or.inl rfl⟩⟩
theorem fwX8_265 : jFW "CodeLayoutModel" 265 1307 := ⟨jok_13, by decide, fun C T N h => by cases h; exact Or.inl ⟨_, q2587, Or.inl rfl⟩⟩
theorem fwX8_269 : jFW "CodeLayoutModel" 269 1308 := ⟨jok_13, by decide, fun C T N h => by cases h; exact Or.inl ⟨_, q2588, Or.inl rfl⟩⟩
theorem fwX8_272 : jFW "CodeLayoutModel" 272 1329 := ⟨jok_13, by decide, fun C T N h => by cases h; exact Or.inl ⟨_, q2626, Or.inl rfl⟩⟩
theorem fwX8_275 : jFW "CodeLayoutModel" 275 1352 := ⟨jok_13, by decide, fun C T N h => by cases h; exact Or.inl ⟨_, q2651, Or.inl rfl⟩⟩
theorem fwX8_281 : jFW "CodeLayoutModel" 281 1311 := ⟨jok_13, by decide, fun C T N h => by cases h; exact Or.inl ⟨_, q2593, Or.inl rfl⟩⟩
theorem fwX8_304 : jFW "CodeLayoutModel" 304 1309 := ⟨jok_13, by decide, fun C T N h => by cases h; exact Or.inl ⟨_, q2590, Or.inl rfl⟩⟩
theorem fwX8_310 : jFW "CodeLayoutModel" 310 1313 := ⟨jok_13, by decide, fun C T N h => by cases h; exact Or.inl ⟨_, q2598, Or.inl rfl⟩⟩
theorem fwX8_316 : jFW "CodeLayoutModel" 316 1310 := ⟨jok_13, by decide, fun C T N h => by cases h; exact Or.inl ⟨_, q2592, Or.inl rfl⟩⟩
theorem fwX8_330 : jFW "CodeLayoutModel" 330 1328 := ⟨jok_13, by decide, fun C T N h => by cases h; exact Or.inl ⟨_, q2625, Or.inl rfl⟩⟩
theorem fwX8_399 : jFW "CodeLayoutModel" 399 1312 := ⟨jok_13, by decide, fun C T N h => by cases h; exact Or.inl ⟨_, q2595, Or.inl rfl⟩⟩
theorem fwX8_481 : jFW "CodeLayoutModel" 481 1502 := ⟨jok_15, by decide, fun C T N h => by cases h; exact Or.inl ⟨_, q2428, Or.inl rfl⟩⟩
theorem fwX8_512 : jFW "CodeLayoutModel" 512 1509 := ⟨jok_15, by decide, fun C T N h => by cases h; exact Or.inl ⟨_, q2439, Or.inl rfl⟩⟩
theorem fwX8_518 : jFW "CodeLayoutModel" 518 1353 := ⟨jok_13, by decide, fun C T N h => by cases h; exact Or.inl ⟨_, q2652, Or.inl rfl⟩⟩
theorem fwX8_521 : jFW "CodeLayoutModel" 521 1357 := ⟨jok_13, by decide, fun C T N h => by cases h; exact Or.inl ⟨_, q2657, Or.inl rfl⟩⟩
theorem fwX8_527 : jFW "CodeLayoutModel" 527 1356 := ⟨jok_13, by decide, fun C T N h => by cases h; exact Or.inl ⟨_, q2656, Or.inl rfl⟩⟩
theorem fwX8_530 : jFW "CodeLayoutModel" 530 1355 := ⟨jok_13, by decide, fun C T N h => by cases h; exact Or.inl ⟨_, q2655, Or.inl rfl⟩⟩
theorem fwX8_584 : jFW "CodeLayoutModel" 584 1602 := ⟨jok_16, by decide, fun C T N h => by cases h; exact Or.inl ⟨_, q2488, Or.inl rfl⟩⟩
theorem fwX9_7 : jFW "CodeLayoutModel$Heads" 7 1406 := ⟨jok_14, by decide, fun C T N h => by cases h; exact Or.inl ⟨_, q2355, Or.inl rfl⟩⟩
theorem fwX9_13 : jFW "CodeLayoutModel$Heads" 13 1407 := ⟨jok_14, by decide, fun C T N h => by cases h; exact Or.inl ⟨_, q2357, Or.inl rfl⟩⟩
theorem fwX9_16 : jFW "CodeLayoutModel$Heads" 16 1408 := ⟨jok_14, by decide, fun C T N h => by cases h; exact Or.inl ⟨_, q2359, Or.inl rfl⟩⟩
theorem fwX9_20 : jFW "CodeLayoutModel$Heads" 20 1409 := ⟨jok_14, by decide, fun C T N h => by cases h; exact Or.inl ⟨_, q2361, Or.inl rfl⟩⟩
theorem fwX9_23 : jFW "CodeLayoutModel$Heads" 23 1410 := ⟨jok_14, by decide, fun C T N h => by cases h; exact Or.inl ⟨_, q2363, Or.inl rfl⟩⟩
theorem fwX9_26 : jFW "CodeLayoutModel$Heads" 26 1411 := ⟨jok_14, by decide, fun C T N h => by cases h; exact Or.inl ⟨_, q2364, Or.inl rfl⟩⟩
theorem fwX9_29 : jFW "CodeLayoutModel$Heads" 29 1412 := ⟨jok_14, by decide, fun C T N h => by cases h; exact Or.inl ⟨_, q2365, Or.inl rfl⟩⟩
theorem fwX9_32 : jFW "CodeLayoutModel$Heads" 32 1413 := ⟨jok_14, by decide, fun C T N h => by cases h; exact Or.inl ⟨_, q2368, Or.inl rfl⟩⟩
theorem fwX9_35 : jFW "CodeLayoutModel$Heads" 35 1414 := ⟨jok_14, by decide, fun C T N h => by cases h; exact Or.inl ⟨_, q2371, Or.inl rfl⟩⟩
theorem fwX9_48 : jFW "CodeLayoutModel$Heads" 48 1417 := ⟨jok_14, by decide, fun C T N h => by cases h; exact Or.inl ⟨_, q2378, Or.inl rfl⟩⟩
theorem fwX9_80 : jFW "CodeLayoutModel$Heads" 80 1415 := ⟨jok_14, by decide, fun C T N h => by cases h; exact Or.inl ⟨_, q2375, Or.inl rfl⟩⟩
theorem fwX9_121 : jFW "CodeLayoutModel$Heads" 121 1402 := ⟨jok_14, by decide, fun C T N h => by cases h; exact Or.inl ⟨_, q2347, Or.inl rfl⟩⟩
theorem fwX9_126 : jFW "CodeLayoutModel$Heads" 126 1403 := ⟨jok_14, by decide, fun C T N h => by cases h; exact Or.inl ⟨_, q2350, Or.inl rfl⟩⟩
theorem fwX9_131 : jFW "CodeLayoutModel$Heads" 131 1404 := ⟨jok_14, by decide, fun C T N h => by cases h; exact Or.inl ⟨_, q2352, Or.inl rfl⟩⟩
theorem fwX9_141 : jFW "CodeLayoutModel$Heads" 141 1405 := ⟨jok_14, by decide, fun C T N h => by cases h; exact Or.inl ⟨_, q2353, Or.inl rfl⟩⟩
theorem fwX9_160 : jFW "CodeLayoutModel$Heads" 160 1416 := ⟨jok_14, by decide, fun C T N h => by cases h; exact Or.inl ⟨_, q2377, Or.inl rfl⟩⟩
theorem nlL_7 : jNL "CodeLayoutLaw" 7 1 := ⟨jok_1, by decide, fun C T N h => by cases h; exact ⟨q258, q259, q226, by decide +kernel⟩⟩
theorem nlL_10 : jNL "CodeLayoutLaw" 10 13 := ⟨jok_13, by decide, fun C T N h => by cases h; exact ⟨q2329, q2330, q241, by decide +kernel⟩⟩
theorem nlX0_26 : jNL "CodeLayout" 26 2 := ⟨jok_2, by decide, fun C T N h => by cases h; exact ⟨q267, q268, q227, by decide +kernel⟩⟩
theorem nlX0_36 : jNL "CodeLayout" 36 7 := ⟨jok_7, by decide, fun C T N h => by cases h; exact ⟨q586, q587, q237, by decide +kernel⟩⟩
theorem nlX0_49 : jNL "CodeLayout" 49 10 := ⟨jok_10, by decide, fun C T N h => by cases h; exact ⟨q610, q1399, q252, by decide +kernel⟩⟩
theorem nlX0_55 : jNL "CodeLayout" 55 18 := ⟨jok_18, by decide, fun C T N h => by cases h; exact ⟨q612, q613, q240, by decide +kernel⟩⟩
theorem nlX0_68 : jNL "CodeLayout" 68 3 := ⟨jok_3, by decide, fun C T N h => by cases h; exact ⟨q638, q274, q228, by decide +kernel⟩⟩
theorem nlX0_75 : jNL "CodeLayout" 75 4 := ⟨jok_4, by decide, fun C T N h => by cases h; exact ⟨q640, q355, q233, by decide +kernel⟩⟩
theorem nlX0_152 : jNL "CodeLayout" 152 8 := ⟨jok_8, by decide, fun C T N h => by cases h; exact ⟨q1157, q1158, q248, by decide +kernel⟩⟩
theorem nlX0_155 : jNL "CodeLayout" 155 9 := ⟨jok_9, by decide, fun C T N h => by cases h; exact ⟨q1257, q1258, q249, by decide +kernel⟩⟩
theorem nlX1_7 : jNL "CodeLayout$Program" 7 3 := ⟨jok_3, by decide, fun C T N h => by cases h; exact ⟨q273, q274, q228, by decide +kernel⟩⟩
theorem nlX1_16 : jNL "CodeLayout$Program" 16 4 := ⟨jok_4, by decide, fun C T N h => by cases h; exact ⟨q354, q355, q233, by decide +kernel⟩⟩
theorem nlX1_25 : jNL "CodeLayout$Program" 25 5 := ⟨jok_5, by decide, fun C T N h => by cases h; exact ⟨q455, q456, q235, by decide +kernel⟩⟩
theorem nlX1_49 : jNL "CodeLayout$Program" 49 6 := ⟨jok_6, by decide, fun C T N h => by cases h; exact ⟨q476, q477, q236, by decide +kernel⟩⟩
theorem nlX13_21 : jNL "CodeLayout$Ordering" 21 6 := ⟨jok_6, by decide, fun C T N h => by cases h; exact ⟨q1163, q477, q236, by decide +kernel⟩⟩
theorem nlX15_9 : jNL "CodeLayout$Machine" 9 11 := ⟨jok_11, by decide, fun C T N h => by cases h; exact ⟨q1404, q1405, q253, by decide +kernel⟩⟩
theorem nlX15_55 : jNL "CodeLayout$Machine" 55 12 := ⟨jok_12, by decide, fun C T N h => by cases h; exact ⟨q1420, q1421, q254, by decide +kernel⟩⟩
theorem nlX7_7 : jNL "CodeLayout$Counts" 7 6 := ⟨jok_6, by decide, fun C T N h => by cases h; exact ⟨q592, q477, q236, by decide +kernel⟩⟩
theorem nlX8_20 : jNL "CodeLayoutModel" 20 14 := ⟨jok_14, by decide, fun C T N h => by cases h; exact ⟨q2336, q2337, q242, by decide +kernel⟩⟩
theorem nlX8_138 : jNL "CodeLayoutModel" 138 15 := ⟨jok_15, by decide, fun C T N h => by cases h; exact ⟨q2418, q2419, q243, by decide +kernel⟩⟩
theorem nlX8_163 : jNL "CodeLayoutModel" 163 16 := ⟨jok_16, by decide, fun C T N h => by cases h; exact ⟨q2478, q2479, q244, by decide +kernel⟩⟩
