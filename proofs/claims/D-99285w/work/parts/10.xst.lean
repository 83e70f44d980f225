/-! what stands of the system: which cells, of which kind -/
set_option maxRecDepth 100000
theorem rt {a z : Int × XS} (h : some a = some z) : some ((0, a) : RX) = some ((0, z) : RX) := by cases h; rfl
theorem tgs {τ : XS} {ce n : Int} {t : Nat} (h : stc ce = (t, n)) (h0 : t ≠ 0) : tg true τ ce = t := by
  unfold tg
  rw [if_pos ⟨rfl, by rw [h]; exact h0⟩, h]
theorem lns {τ : XS} {ce n : Int} {t : Nat} (h : stc ce = (t, n)) (h0 : t ≠ 0) : ln true τ ce = n := by
  unfold ln
  rw [if_pos ⟨rfl, by rw [h]; exact h0⟩, h]
theorem oks {τ : XS} {ce n i : Int} {t : Nat} (h : stc ce = (t, n)) (h0 : t ≠ 0) (hi : ok n i) : ok (ln true τ ce) i := by rw [lns h h0]; exact hi
theorem stc_fix {ce : Int} (h : (stc ce).1 ≠ 0) : 0 ≤ ce ∧ ce < 1438 := by
  unfold stc at h
  split at h
  · omega
  · split at h
    · omega
    · split at h
      · omega
      · split at h
        · omega
        · split at h
          · omega
          · exact absurd rfl h
theorem st0 {ce n : Int} {t : Nat} (h : stc ce = (t, n)) (h0 : t ≠ 0) : 0 ≤ ce := (stc_fix (by rw [h]; exact h0)).1
theorem stm {ce n : Int} {t : Nat} (h : stc ce = (t, n)) (h0 : t ≠ 0) : ¬ (1438 ≤ ce ∧ ce < 1514) := by have := (stc_fix (ce := ce) (by rw [h]; exact h0)).2; omega
/-- the States -/
abbrev isSt (ce : Int) : Prop := (36 ≤ ce ∧ ce < 162 ∧ (ce - 36) % 63 = 0) ∨ (177 ≤ ce ∧ ce < 1437 ∧ (ce - 177) % 63 = 0)
theorem st_at {ce r : Int} (h : isSt ce) (h1 : 0 ≤ r) (h2 : r < 63) : stc (ce + r) = (rtg r, rln r) := by
  unfold stc
  rcases h with ⟨a, b, c⟩ | ⟨a, b, c⟩
  · rw [if_pos (by omega), show (ce + r - 36) % 63 = r by omega]
  · rw [if_neg (by omega), if_pos (by omega), show (ce + r - 177) % 63 = r by omega]
theorem st_0 {ce : Int} (h : isSt ce) : stc ce = (8, 6) := by have := st_at h (r := 0) (by decide) (by decide); rw [Int.add_zero] at this; exact this
theorem st_1 {ce : Int} (h : isSt ce) : stc (ce + 1) = (101, 6) := st_at h (by decide) (by decide)
theorem st_2 {ce : Int} (h : isSt ce) : stc (ce + 2) = (101, 6) := st_at h (by decide) (by decide)
theorem st_3 {ce : Int} (h : isSt ce) : stc (ce + 3) = (101, 6) := st_at h (by decide) (by decide)
theorem st_4 {ce : Int} (h : isSt ce) : stc (ce + 4) = (101, 6) := st_at h (by decide) (by decide)
theorem st_5 {ce : Int} (h : isSt ce) : stc (ce + 5) = (121, 6) := st_at h (by decide) (by decide)
theorem st_12 {ce : Int} (h : isSt ce) : stc (ce + 12) = (111, 50) := st_at h (by decide) (by decide)
theorem st_g {ce o : Int} (h : isSt ce) (ho : ok 6 o) : stc (ce + 5 + 1 + i32 o) = (101, 7) := by
  obtain ⟨a, b⟩ := ho
  have := st_at h (r := 6 + i32 o) (by omega) (by omega)
  rw [show ce + 5 + 1 + i32 o = ce + (6 + i32 o) by omega, this]
  have e1 : rtg (6 + i32 o) = 101 := by unfold rtg; rw [if_neg (by omega), if_neg (by omega), if_neg (by omega), if_pos (by omega)]
  have e2 : rln (6 + i32 o) = 7 := by unfold rln; rw [if_neg (by omega), if_pos (by omega)]
  rw [e1, e2]
abbrev isMo (ce : Int) : Prop := ce = 9 ∨ ce = 11
theorem mo_0 {ce : Int} (h : isMo ce) : stc ce = (5, 0) := by rcases h with rfl | rfl <;> decide
theorem mo_1 {ce : Int} (h : isMo ce) : stc (ce + 1) = (104, 9) := by rcases h with rfl | rfl <;> decide
/-- rows of the giving's tables, of what is tried by tones -/
theorem s2_6 {o : Int} (h : ok 6 o) : ∃ k : Nat, k < 6 ∧ i32 o = k := ⟨(i32 o).toNat, by have := h.1; have := h.2; omega, by have := h.1; omega⟩
theorem s2_can {o : Int} (h : ok 6 o) : stc (20 + 1 + i32 o) = (103, 7) := by
  obtain ⟨k, hk, e⟩ := s2_6 h
  rw [e]
  revert k
  exact fun k hk _ => by rcases k with _ | _ | _ | _ | _ | _ | k <;> first | decide | omega
theorem s2_well {o : Int} (h : ok 6 o) : stc (27 + 1 + i32 o) = (104, 7) := by
  obtain ⟨k, hk, e⟩ := s2_6 h
  rw [e]
  revert k
  exact fun k hk _ => by rcases k with _ | _ | _ | _ | _ | _ | k <;> first | decide | omega
theorem s2_by {o : Int} (h : ok 10 o) : stc (165 + 1 + i32 o) = (101, 21) := by
  have e : ∃ k : Nat, k < 10 ∧ i32 o = k := ⟨(i32 o).toNat, by have := h.1; have := h.2; omega, by have := h.1; omega⟩
  obtain ⟨k, hk, e⟩ := e
  rw [e]
  revert k
  exact fun k hk _ => by rcases k with _ | _ | _ | _ | _ | _ | _ | _ | _ | _ | k <;> first | decide | omega
theorem same_f {C n d : String} : ∀ (s : State) (args : Array Value), (∀ w ∈ lw_all, w.before args s = true) → ∀ x, s.fieldFound? C n d = some x → s.fieldFound? C n d = some x := fun _ _ _ _ h => h
theorem cw1 : ClsW 1 (RX0, TX0, 24) := ⟨by decide, by decide, rfl, in_X0, nmX0, tyX0, tyX0_ok⟩
theorem cw2 : ClsW 2 (RX1, TX1, 9) := ⟨by decide, by decide, rfl, in_X1, nmX1, tyX1, tyX1_ok⟩
theorem cw3 : ClsW 3 (RX2, TX2, 8) := ⟨by decide, by decide, rfl, in_X2, nmX2, tyX2, tyX2_ok⟩
theorem cw4 : ClsW 4 (RX3, TX3, 8) := ⟨by decide, by decide, rfl, in_X3, nmX3, tyX3, tyX3_ok⟩
theorem cw5 : ClsW 5 (RX4, TX4, 1) := ⟨by decide, by decide, rfl, in_X4, nmX4, tyX4, tyX4_ok⟩
theorem cw6 : ClsW 6 (RX5, TX5, 6) := ⟨by decide, by decide, rfl, in_X5, nmX5, tyX5, tyX5_ok⟩
theorem cw7 : ClsW 7 (RX6, TX6, 9) := ⟨by decide, by decide, rfl, in_X6, nmX6, tyX6, tyX6_ok⟩
theorem cw8 : ClsW 8 (RX7, TX7, 10) := ⟨by decide, by decide, rfl, in_X7, nmX7, tyX7, tyX7_ok⟩
theorem cw9 : ClsW 9 (RX10, TX10, 4) := ⟨by decide, by decide, rfl, in_X10, nmX10, tyX10, tyX10_ok⟩
theorem cw10 : ClsW 10 (RX11, TX11, 3) := ⟨by decide, by decide, rfl, in_X11, nmX11, tyX11, tyX11_ok⟩
theorem cw11 : ClsW 11 (RX13, TX13, 2) := ⟨by decide, by decide, rfl, in_X13, nmX13, tyX13, tyX13_ok⟩
theorem cw12 : ClsW 12 (RX14, TX14, 1) := ⟨by decide, by decide, rfl, in_X14, nmX14, tyX14, tyX14_ok⟩
theorem cw13 : ClsW 13 (RX15, fun _ => ("", "", "", false), 0) := ⟨by decide, by decide, rfl, (fun w h => by cases h), (fun a h => absurd h (Nat.not_lt_zero a)), fun _ => .int, fun k h => absurd h (Nat.not_lt_zero k)⟩
theorem cw14 : ClsW 14 (RX17, TX17, 2) := ⟨by decide, by decide, rfl, in_X17, nmX17, tyX17, tyX17_ok⟩
theorem cw15 : ClsW 15 (RX18, TX18, 3) := ⟨by decide, by decide, rfl, in_X18, nmX18, tyX18, tyX18_ok⟩
theorem cw16 : ClsW 16 (RX19, TX19, 1) := ⟨by decide, by decide, rfl, in_X19, nmX19, tyX19, tyX19_ok⟩
theorem cw17 : ClsW 17 (RX20, TX20, 1) := ⟨by decide, by decide, rfl, in_X20, nmX20, tyX20, tyX20_ok⟩
theorem cw18 : ClsW 18 (RX21, TX21, 3) := ⟨by decide, by decide, rfl, in_X21, nmX21, tyX21, tyX21_ok⟩
theorem cw19 : ClsW 19 (RX22, TX22, 3) := ⟨by decide, by decide, rfl, in_X22, nmX22, tyX22, tyX22_ok⟩
theorem cw20 : ClsW 20 (RX23, TX23, 5) := ⟨by decide, by decide, rfl, in_X23, nmX23, tyX23, tyX23_ok⟩
theorem cw21 : ClsW 21 (RJ2, TJ2, 3) := ⟨by decide, by decide, rfl, in_J2, nmJ2, tyJ2, tyJ2_ok⟩
theorem cw22 : ClsW 22 (RJ6, TJ6, 4) := ⟨by decide, by decide, rfl, in_J6, nmJ6, tyJ6, tyJ6_ok⟩
theorem cw23 : ClsW 23 (RJ15, TJ15, 4) := ⟨by decide, by decide, rfl, in_J15, nmJ15, tyJ15, tyJ15_ok⟩
theorem cw24 : ClsW 24 (RX8, TX8, 108) := ⟨by decide, by decide, rfl, in_X8, nmX8, tyX8, tyX8_ok⟩
def iushr (a b : Int) : Int := ((Int32.ofInt a).toUInt32 >>> ((Int32.ofInt b).toUInt32 &&& Int32.toUInt32 31)).toInt32.toInt
def lxor (a b : Int) : Int := (Int64.ofInt a ^^^ Int64.ofInt b).toInt
theorem nes {ce n : Int} {t : Nat} (h : stc ce = (t, n)) (h0 : t ≠ 0) : ¬ ce = -1 := by have := st0 h h0; omega
theorem rfOk {ty : FieldType} (h : isRefD ty = true) {x0 : Nat} (r : Int) : narrow ty (rf x0 r) = rf x0 r ∧ fits ty (rf x0 r) = true := by
  unfold rf
  split
  · exact nullOk h
  · exact refOk h _
theorem rf_cases (x0 : Nat) (r : Int) : rf x0 r = .null ∨ ∃ a, rf x0 r = .ref a := by
  unfold rf
  split
  · exact Or.inl rfl
  · exact Or.inr ⟨_, rfl⟩
theorem by_narrow {x : Int} (h : i8 x = i32 x) : narrow .byte (J x) = J x := by
  show narrow .byte (.int (Int32.ofInt x)) = J x
  rw [i8_narrow, h]
  unfold J
  rw [ofInt_i32]
theorem by_fits {x : Int} (h : i8 x = i32 x) : fits .byte (J x) = true := by
  have h1 := by_narrow h
  rw [← h1]
  exact pk_fb (Int32.ofInt x)
theorem u16_c (x : Int) : ((Int32.ofInt x).toUInt32 % 65536).toInt32 = Int32.ofInt (u16 x) := by
  rw [pk_char]
  have h1 : (((Int32.ofInt x).toBitVec.toNat % 65536 : Nat) : Int) = u16 x := by
    unfold u16
    have : ((Int32.ofInt x).toBitVec.toNat : Int) = x % 4294967296 := by
      show (((BitVec.ofInt 32 x).toNat : Nat) : Int) = _
      rw [BitVec.toNat_ofInt]
      have := Int.emod_nonneg x (show (4294967296 : Int) ≠ 0 by decide)
      omega
    omega
  rw [← h1]
  rfl
section Xmore
variable {l : Launch} {nL x0 : Nat} {D : XD} {b : Bool} {tv dp c0 s0 : Nat} {res : RX} {σ : XS} {lv : List (Nat × Value)} {st : List Value} {cc : ByteArray} {own mn : String} {xt : List ExceptionTableEntry} {ret : Option FieldType}
theorem gx_iushr (pc : Nat) {x y : Int} (hd : decode cc pc = .ok (.iushr, 1)) (k : GX l cc own nL ret mn xt x0 D b tv dp c0 s0 res σ (pc + 1) lv (J (iushr x y) :: st)) : GX l cc own nL ret mn xt x0 D b tv dp c0 s0 res σ pc lv (J y :: J x :: st) :=
  ⟨k.1, fun p e s m args below meth c hC H locs ls hR hS hv z1 z2 => lv_iushr hC.1 hC.2.1 hd (by rw [iushr, Int32.ofInt_toInt]) (k.2 p e s m args below meth c hC H locs ls hR hS hv z1 z2)⟩
theorem gx_lxor (pc : Nat) {x y : Int} (hd : decode cc pc = .ok (.lxor, 1)) (k : GX l cc own nL ret mn xt x0 D b tv dp c0 s0 res σ (pc + 1) lv (Lg (lxor x y) :: st)) : GX l cc own nL ret mn xt x0 D b tv dp c0 s0 res σ pc lv (Lg y :: Lg x :: st) :=
  ⟨k.1, fun p e s m args below meth c hC H locs ls hR hS hv z1 z2 => lv_lxor hC.1 hC.2.1 hd (by have := k.2 p e s m args below meth c hC H locs ls hR hS hv z1 z2; rw [Lg, lxor, Int64.ofInt_toInt] at this; exact this)⟩
theorem gx_ldc (pc : Nat) {idx : Nat} {w : Int32} {v : Int} (hd : decode cc pc = .ok (.ldc idx, 2)) (hq : Cond.constant own idx w ∈ lw_all) (hn : w = Int32.ofInt v) (k : GX l cc own nL ret mn xt x0 D b tv dp c0 s0 res σ (pc + 2) lv (J v :: st)) : GX l cc own nL ret mn xt x0 D b tv dp c0 s0 res σ pc lv st :=
  ⟨k.1, fun p e s m args below meth c hC H locs ls hR hS hv z1 z2 => lv_ldc hC.1 hC.2.1 hC.2.2.2.2.1 (hC.2.2.2.2.2.1 _ hq) hd (by rw [hn]; exact k.2 p e s m args below meth c hC H locs ls hR hS hv z1 z2)⟩
theorem gx_ldc_w (pc : Nat) {idx : Nat} {w : Int32} {v : Int} (hd : decode cc pc = .ok (.ldc_w idx, 3)) (hq : Cond.constant own idx w ∈ lw_all) (hn : w = Int32.ofInt v) (k : GX l cc own nL ret mn xt x0 D b tv dp c0 s0 res σ (pc + 3) lv (J v :: st)) : GX l cc own nL ret mn xt x0 D b tv dp c0 s0 res σ pc lv st :=
  ⟨k.1, fun p e s m args below meth c hC H locs ls hR hS hv z1 z2 => lv_ldcw hC.1 hC.2.1 hC.2.2.2.2.1 (hC.2.2.2.2.2.1 _ hq) hd (by rw [hn]; exact k.2 p e s m args below meth c hC H locs ls hR hS hv z1 z2)⟩
theorem gx_i2c (pc : Nat) {x : Int} (hd : decode cc pc = .ok (.i2c, 1)) (k : GX l cc own nL ret mn xt x0 D b tv dp c0 s0 res σ (pc + 1) lv (J (u16 x) :: st)) : GX l cc own nL ret mn xt x0 D b tv dp c0 s0 res σ pc lv (J x :: st) :=
  ⟨k.1, fun p e s m args below meth c hC H locs ls hR hS hv z1 z2 => lv_i2c hC.1 hC.2.1 hd (u16_c x) (k.2 p e s m args below meth c hC H locs ls hR hS hv z1 z2)⟩
theorem gx_null (pc : Nat) (hd : decode cc pc = .ok (.aconst_null, 1)) (k : GX l cc own nL ret mn xt x0 D b tv dp c0 s0 res σ (pc + 1) lv (.null :: st)) : GX l cc own nL ret mn xt x0 D b tv dp c0 s0 res σ pc lv st :=
  ⟨k.1, fun p e s m args below meth c hC H locs ls hR hS hv z1 z2 => lv_null hC.1 hC.2.1 hd (k.2 p e s m args below meth c hC H locs ls hR hS hv z1 z2)⟩
theorem gx_castS (pc : Nat) {t idx : Nat} {ce : Int} {q : vw_C} (hq : ClsW t q) (ht : tg b σ ce = t) (hl : Cond.classLink own idx q.1 ∈ lw_all) (hd : decode cc pc = .ok (.checkcast idx, 3))
    (k : GX l cc own nL ret mn xt x0 D b tv dp c0 s0 res σ (pc + 3) lv (.ref (ad x0 ce) :: st)) : GX l cc own nL ret mn xt x0 D b tv dp c0 s0 res σ pc lv (.ref (ad x0 ce) :: st) :=
  ⟨k.1, fun p e s m args below meth c hC H locs ls hRp hS hv z1 z2 => va_castS hC.1 hC.2.1 hC.2.2.2.2.1 (hC.2.2.2.2.2.1 _ hl) (hC.2.2.2.2.2.2.2.1.1 _ _ hq.2.2.1).2 (x_recv hC ht hq hRp) hd (k.2 p e s m args below meth c hC H locs ls hRp hS hv z1 z2)⟩
theorem gx_getsJ (pc : Nat) {idx : Nat} {C n d : String} {v : Int} (hq : (C, n, d, J v) ∈ X6 x0 D) (hl : Cond.fieldLink own idx C n d ∈ lw_all) (hd : decode cc pc = .ok (.getstatic idx, 3)) (k : GX l cc own nL ret mn xt x0 D b tv dp c0 s0 res σ (pc + 3) lv (J v :: st)) : GX l cc own nL ret mn xt x0 D b tv dp c0 s0 res σ pc lv st :=
  ⟨k.1, fun p e s m args below meth c hC H locs ls hR hS hv z1 z2 => va_gets hC.1 hC.2.1 (hC.2.2.2.2.2.2.2.1.2.2.2.2.2.1 _ hq) hS hC.2.2.2.2.1 (hC.2.2.2.2.2.1 _ hl) (fun _ h => h) hd (k.2 p e s m args below meth c hC H locs ls hR hS hv z1 z2)⟩
theorem gx_getsN (pc j : Nat) {idx : Nat} {C n d : String} (hq : (C, n, d, rf x0 (D.2.2.2 j)) ∈ X6 x0 D) (hl : Cond.fieldLink own idx C n d ∈ lw_all) (hd : decode cc pc = .ok (.getstatic idx, 3)) (k : GX l cc own nL ret mn xt x0 D b tv dp c0 s0 res σ (pc + 3) lv (rf x0 (σ (-1) (100 + (j : Int))) :: st)) : GX l cc own nL ret mn xt x0 D b tv dp c0 s0 res σ pc lv st :=
  ⟨k.1, fun p e s m args below meth c hC H locs ls hR hS hv z1 z2 => va_gets hC.1 hC.2.1 (hC.2.2.2.2.2.2.2.1.2.2.2.2.2.1 _ hq) hS hC.2.2.2.2.1 (hC.2.2.2.2.2.1 _ hl) (fun _ h => h) hd (by rw [← hR.2.2.2.1.2 j]; exact k.2 p e s m args below meth c hC H locs ls hR hS hv z1 z2)⟩
theorem gx_getsR (pc j : Nat) {idx : Nat} {C n d host : String} (hq : (C, n, d, rf x0 (D.2.2.2 j)) ∈ X6 x0 D) (hl : Cond.fieldLinkNest own idx C n d host ∈ lw_tbl) (hne : ¬ σ (-1) (100 + (j : Int)) = -1) (hd : decode cc pc = .ok (.getstatic idx, 3)) (k : GX l cc own nL ret mn xt x0 D b tv dp c0 s0 res σ (pc + 3) lv (.ref (ad x0 (σ (-1) (100 + (j : Int)))) :: st)) : GX l cc own nL ret mn xt x0 D b tv dp c0 s0 res σ pc lv st :=
  ⟨k.1, fun p e s m args below meth c hC H locs ls hR hS hv z1 z2 => va_getsN hC.1 hC.2.1 (hC.2.2.2.2.2.2.2.1.2.2.2.2.2.1 _ hq) hS hC.2.2.2.2.1 ((hC.2.2.2.2.2.2.2.1.2.2.1 _ hl rfl).use rfl) (fun _ h => h) hd (by rw [← hR.2.2.2.1.2 j, rf_ne hne]; exact k.2 p e s m args below meth c hC H locs ls hR hS hv z1 z2)⟩
theorem gx_cret (pc : Nat) {x : Int} (hd : decode cc pc = .ok (.ireturn, 1)) (hb : 0 ≤ i32 x ∧ i32 x < 65536) (h : some ((0, x, σ) : RX) = some res) : GX l cc own nL (some .char) mn xt x0 D b 1 dp c0 s0 res σ pc lv [J x] := by
  cases h
  have hn : narrow .char (J x) = J x := by
    have e1 : Int32.ofInt x = nI (i32 x).toNat := by
      rw [← ofInt_i32]
      conv => lhs; rw [← Int.toNat_of_nonneg hb.1]
      rfl
    unfold J
    rw [e1]
    exact (pk_charN (by omega)).1
  exact ⟨leX_rf _, fun p e s m args below meth c hC H locs ls hR hS hv z1 z2 => gx_end (pc := pc) (ls := ls) (leX_rf _) z1 z2 (W.zret hC.1 hC.2.1 hC.2.2.1 hn (fun t ht hW => ⟨rfl, rfl, by rw [ht]; exact hR, XK_warm hW (hS.F ht) hC.2.2.2.2.2.2.2.1, hS.F ht⟩) hS.2.2 hd hC.2.2.2.2.2.2.1)⟩
theorem gx_bret (pc : Nat) {x : Int} (hd : decode cc pc = .ok (.ireturn, 1)) (hb : i8 x = i32 x) (h : some ((0, x, σ) : RX) = some res) : GX l cc own nL (some .byte) mn xt x0 D b 1 dp c0 s0 res σ pc lv [J x] := by
  cases h
  exact ⟨leX_rf _, fun p e s m args below meth c hC H locs ls hR hS hv z1 z2 => gx_end (pc := pc) (ls := ls) (leX_rf _) z1 z2 (W.zret hC.1 hC.2.1 hC.2.2.1 (by_narrow hb) (fun t ht hW => ⟨rfl, rfl, by rw [ht]; exact hR, XK_warm hW (hS.F ht) hC.2.2.2.2.2.2.2.1, hS.F ht⟩) hS.2.2 hd hC.2.2.2.2.2.2.1)⟩
/-- super.m(..) -/
theorem gx_callSU (pc n : Nat) {y : MethodName} {bytes : ByteArray} {maxL d1 idx tv1 t : Nat} {ce : Int} {q : vw_C} {rt : Option FieldType} {As rest st' : List Value} {z : Int × XS} (hq : ClsW t q) (ht : tg b σ ce = t)
    (hM : XMet0 l y bytes maxL rt d1 b x0 D (.ref (ad x0 ce) :: As) σ tv1 z) (hw : GoodIn lw_all (va_wsSU own idx y (ws_ y bytes maxL rt)))
    (hd1 : y.name ≠ "<init>" ∧ (parseMethodDescriptor y.desc).map (fun d => d.parameters.length) = some n) (hR : d1 + 1 ≤ dp ∧ 8 + (maxL + 11) + 80 * d1 ≤ 80 * dp)
    (hn : As.length = n) (hst : st = As.reverse ++ .ref (ad x0 ce) :: rest) (hW : (rest.map fun v => v.category).sum ≤ 8) (hd : decode cc pc = .ok (.invokespecial idx, 3)) (hst' : (tvx x0 tv1 z.1).toList ++ rest = st')
    (k : GX l cc own nL ret mn xt x0 D b tv dp c0 s0 res z.2 (pc + 3) lv st') : GX l cc own nL ret mn xt x0 D b tv dp c0 s0 res σ pc lv st :=
  gx_run pc hM.1 hst' (fun p e s m args below meth c hC H locs ls hRp hS hv g1 => va_runSU (g := F0 m pc ls st) (rest := rest) (hC.2.2.2.2.2.2.2.1.1 _ _ hq.2.2.1).2 ⟨hC.1, hC.2.1, hC.2.2.2.1, hC.2.2.2.2.1, hC.2.2.2.2.2.1⟩ hM.2 (va_cwSU n hC.2.2.2.2.2.1 hw rfl rfl rfl hd1 hR) ⟨xPre_blind, x_recv hC ht hq hRp, fun U hU hW => ⟨rfl, by rw [hU]; exact hRp, XK_warm hW (hS.F hU) hC.2.2.2.2.2.2.2.1⟩⟩ rfl hn hv.1 hst (lv_room hW) hd g1) k
/-- two references that are not null; one of them new -/
theorem gx_acmp_ne (pc tgt : Nat) {x y off : Int} (hx : ¬ x = -1) (hy : ¬ y = -1) (h0 : 0 ≤ x ∨ 0 ≤ y) (hp : 0 < x0 ∨ True) (hd : decode cc pc = .ok (.if_acmp .ne off, 3)) (ht : (pc : Int) + off = (tgt : Int)) (kt : ¬ x = y → GX l cc own nL ret mn xt x0 D b tv dp c0 s0 res σ tgt lv st) (kf : x = y → GX l cc own nL ret mn xt x0 D b tv dp c0 s0 res σ (pc + 3) lv st) : GX l cc own nL ret mn xt x0 D b tv dp c0 s0 res σ pc lv (.ref (ad x0 y) :: .ref (ad x0 x) :: st) := by
  refine ⟨by by_cases q9 : x = y <;> first | exact (kf q9).1 | exact (kt q9).1, fun p e s m args below meth c hC H locs ls hR hS hv z1 z2 => ?_⟩
  have hx0 := hR.1
  have key : some (ad x0 x) = some (ad x0 y) ↔ x = y := by
    constructor
    · intro h
      have h := Option.some.inj h
      rcases h0 with h1 | h1
      · exact (ad_inj hx0 h1 hy h.symm).symm
      · exact ad_inj hx0 h1 hx h
    · intro h; rw [h]
  exact lv_acmp_ne (rx := some (ad x0 x)) (ry := some (ad x0 y)) hC.1 hC.2.1 hd ht (fun h => (kt (fun q => h (key.mpr q))).2 p e s m args below meth c hC H locs ls hR hS hv z1 z2) (fun h => (kf (key.mp h)).2 p e s m args below meth c hC H locs ls hR hS hv z1 z2)
theorem gx_instS (pc : Nat) {t idx : Nat} {ce : Int} {q : vw_C} (hq : ClsW t q) (ht : tg b σ ce = t) (hl : Cond.classLink own idx q.1 ∈ lw_all) (hd : decode cc pc = .ok (.instanceof idx, 3))
    (k : GX l cc own nL ret mn xt x0 D b tv dp c0 s0 res σ (pc + 3) lv (J 1 :: st)) : GX l cc own nL ret mn xt x0 D b tv dp c0 s0 res σ pc lv (.ref (ad x0 ce) :: st) :=
  ⟨k.1, fun p e s m args below meth c hC H locs ls hRp hS hv z1 z2 => va_instS hC.1 hC.2.1 hC.2.2.2.2.1 (hC.2.2.2.2.2.1 _ hl) (hC.2.2.2.2.2.2.2.1.1 _ _ hq.2.2.1).2 (x_recv hC ht hq hRp) hd (k.2 p e s m args below meth c hC H locs ls hRp hS hv z1 z2)⟩
theorem gx_astore_nv (pc : Nat) (lv' : List (Nat × Value)) {i : Fin 4} {x v : Int} (hd : decode cc pc = .ok (.astore_n i, 1)) (hn : (i : Nat) < nL) (hv0 : v = x) (hl : lvs1 lv i (.ref (ad x0 v)) = lv') (k : GX l cc own nL ret mn xt x0 D b tv dp c0 s0 res σ (pc + 1) lv' st) : GX l cc own nL ret mn xt x0 D b tv dp c0 s0 res σ pc lv (.ref (ad x0 x) :: st) := by
  subst hv0
  exact gx_astore_n pc lv' hd hn hl k
theorem gx_astorev (pc : Nat) (lv' : List (Nat × Value)) {i : Nat} {x v : Int} (hd : decode cc pc = .ok (.astore i, 2)) (hn : i < nL) (hv0 : v = x) (hl : lvs1 lv i (.ref (ad x0 v)) = lv') (k : GX l cc own nL ret mn xt x0 D b tv dp c0 s0 res σ (pc + 2) lv' st) : GX l cc own nL ret mn xt x0 D b tv dp c0 s0 res σ pc lv (.ref (ad x0 x) :: st) := by
  subst hv0
  exact gx_astore pc lv' hd hn hl k
theorem gx_aload_nR (pc q : Nat) {i : Fin 4} {x : Int} (hd : decode cc pc = .ok (.aload_n i, 1)) (hq : lv[q]? = some ((i : Nat), rf x0 x)) (k : GX l cc own nL ret mn xt x0 D b tv dp c0 s0 res σ (pc + 1) lv (rf x0 x :: st)) : GX l cc own nL ret mn xt x0 D b tv dp c0 s0 res σ pc lv st := by
  by_cases h : x = -1
  · subst h
    exact ⟨k.1, fun p e s m args below meth c hC H locs ls hR hS hv z1 z2 => lv_aload_nN hC.1 hC.2.1 hd rfl (lv_at hv q hq) (k.2 p e s m args below meth c hC H locs ls hR hS hv z1 z2)⟩
  · rw [rf_ne h] at hq k
    exact gx_aload_n pc q hd hq k
/-- aload of a reference that may be null, and the branch behind it -/
theorem gx_aload_nifnonnull (pc tgt q : Nat) {i : Fin 4} {x off : Int} (hd : decode cc pc = .ok (.aload_n i, 1)) (hd2 : decode cc (pc + 1) = .ok (.ifnonnull off, 3)) (hq : lv[q]? = some ((i : Nat), rf x0 x)) (ht : ((pc + 1 : Nat) : Int) + off = (tgt : Int)) (kt : ¬ x = -1 → GX l cc own nL ret mn xt x0 D b tv dp c0 s0 res σ tgt lv st) (kf : x = -1 → GX l cc own nL ret mn xt x0 D b tv dp c0 s0 res σ (pc + 4) lv st) : GX l cc own nL ret mn xt x0 D b tv dp c0 s0 res σ pc lv st := by
  refine gx_aload_nR pc q hd hq ?_
  by_cases h : x = -1
  · have k := kf h
    subst h
    exact ⟨k.1, fun p e s m args below meth c hC H locs ls hR hS hv z1 z2 => lv_ifnonnullN hC.1 hC.2.1 hd2 (k.2 p e s m args below meth c hC H locs ls hR hS hv z1 z2)⟩
  · have k := kt h
    rw [rf_ne h]
    exact ⟨k.1, fun p e s m args below meth c hC H locs ls hR hS hv z1 z2 => lv_ifnonnull hC.1 hC.2.1 hd2 ht (k.2 p e s m args below meth c hC H locs ls hR hS hv z1 z2)⟩
theorem gx_aload_nifnull (pc tgt q : Nat) {i : Fin 4} {x off : Int} (hd : decode cc pc = .ok (.aload_n i, 1)) (hd2 : decode cc (pc + 1) = .ok (.ifnull off, 3)) (hq : lv[q]? = some ((i : Nat), rf x0 x)) (ht : ((pc + 1 : Nat) : Int) + off = (tgt : Int)) (kt : x = -1 → GX l cc own nL ret mn xt x0 D b tv dp c0 s0 res σ tgt lv st) (kf : ¬ x = -1 → GX l cc own nL ret mn xt x0 D b tv dp c0 s0 res σ (pc + 4) lv st) : GX l cc own nL ret mn xt x0 D b tv dp c0 s0 res σ pc lv st := by
  refine gx_aload_nR pc q hd hq ?_
  by_cases h : x = -1
  · have k := kt h
    subst h
    exact ⟨k.1, fun p e s m args below meth c hC H locs ls hR hS hv z1 z2 => lv_ifnullN hC.1 hC.2.1 hd2 ht (k.2 p e s m args below meth c hC H locs ls hR hS hv z1 z2)⟩
  · have k := kf h
    rw [rf_ne h]
    exact ⟨k.1, fun p e s m args below meth c hC H locs ls hR hS hv z1 z2 => lv_ifnull hC.1 hC.2.1 hd2 (k.2 p e s m args below meth c hC H locs ls hR hS hv z1 z2)⟩
/-- a reference field that may be null, and the branch behind it -/
theorem gx_ifnonnullR (pc tgt : Nat) {x off : Int} (hd2 : decode cc pc = .ok (.ifnonnull off, 3)) (ht : (pc : Int) + off = (tgt : Int)) (kt : ¬ x = -1 → GX l cc own nL ret mn xt x0 D b tv dp c0 s0 res σ tgt lv st) (kf : x = -1 → GX l cc own nL ret mn xt x0 D b tv dp c0 s0 res σ (pc + 3) lv st) : GX l cc own nL ret mn xt x0 D b tv dp c0 s0 res σ pc lv (rf x0 x :: st) := by
  by_cases h : x = -1
  · have k := kf h
    subst h
    exact ⟨k.1, fun p e s m args below meth c hC H locs ls hR hS hv z1 z2 => lv_ifnonnullN hC.1 hC.2.1 hd2 (k.2 p e s m args below meth c hC H locs ls hR hS hv z1 z2)⟩
  · have k := kt h
    rw [rf_ne h]
    exact ⟨k.1, fun p e s m args below meth c hC H locs ls hR hS hv z1 z2 => lv_ifnonnull hC.1 hC.2.1 hd2 ht (k.2 p e s m args below meth c hC H locs ls hR hS hv z1 z2)⟩
theorem gx_ifnullR (pc tgt : Nat) {x off : Int} (hd2 : decode cc pc = .ok (.ifnull off, 3)) (ht : (pc : Int) + off = (tgt : Int)) (kt : x = -1 → GX l cc own nL ret mn xt x0 D b tv dp c0 s0 res σ tgt lv st) (kf : ¬ x = -1 → GX l cc own nL ret mn xt x0 D b tv dp c0 s0 res σ (pc + 3) lv st) : GX l cc own nL ret mn xt x0 D b tv dp c0 s0 res σ pc lv (rf x0 x :: st) := by
  by_cases h : x = -1
  · have k := kt h
    subst h
    exact ⟨k.1, fun p e s m args below meth c hC H locs ls hR hS hv z1 z2 => lv_ifnullN hC.1 hC.2.1 hd2 ht (k.2 p e s m args below meth c hC H locs ls hR hS hv z1 z2)⟩
  · have k := kf h
    rw [rf_ne h]
    exact ⟨k.1, fun p e s m args below meth c hC H locs ls hR hS hv z1 z2 => lv_ifnull hC.1 hC.2.1 hd2 (k.2 p e s m args below meth c hC H locs ls hR hS hv z1 z2)⟩
abbrev SameF (q : vw_C) (k : Nat) (ref : String) : Prop := ∀ (s : State) (args : Array Value), (∀ w ∈ lw_all, w.before args s = true) → ∀ x, s.fieldFound? (q.2.1 k).1 (q.2.1 k).2.1 (q.2.1 k).2.2.1 = some x → s.fieldFound? ref (q.2.1 k).2.1 (q.2.1 k).2.2.1 = some x
theorem gx_gifnonnull (pc tgt : Nat) {t k idx : Nat} {ce off : Int} {ref : String} {q : vw_C} (hq : ClsW t q) (hk : k < q.2.2) (ht : tg b σ ce = t) (hl : Cond.fieldLink own idx ref (q.2.1 k).2.1 (q.2.1 k).2.2.1 ∈ lw_all) (hsame : SameF q k ref) (hv : fvl b x0 t k ce (σ ce) = rf x0 (σ ce k)) (hd : decode cc pc = .ok (.getfield idx, 3)) (hd2 : decode cc (pc + 3) = .ok (.ifnonnull off, 3)) (htg : ((pc + 3 : Nat) : Int) + off = (tgt : Int)) (kt : ¬ σ ce k = -1 → GX l cc own nL ret mn xt x0 D b tv dp c0 s0 res σ tgt lv st) (kf : σ ce k = -1 → GX l cc own nL ret mn xt x0 D b tv dp c0 s0 res σ (pc + 6) lv st) : GX l cc own nL ret mn xt x0 D b tv dp c0 s0 res σ pc lv (.ref (ad x0 ce) :: st) :=
  gx_get pc hq hk ht hl hsame hv hd (gx_ifnonnullR (pc + 3) tgt hd2 htg kt kf)
theorem gx_gifnonnullN (pc tgt : Nat) {t k idx : Nat} {ce off : Int} {ref host : String} {q : vw_C} (hq : ClsW t q) (hk : k < q.2.2) (ht : tg b σ ce = t) (hl : Cond.fieldLinkNest own idx ref (q.2.1 k).2.1 (q.2.1 k).2.2.1 host ∈ lw_tbl) (hsame : SameF q k ref) (hv : fvl b x0 t k ce (σ ce) = rf x0 (σ ce k)) (hd : decode cc pc = .ok (.getfield idx, 3)) (hd2 : decode cc (pc + 3) = .ok (.ifnonnull off, 3)) (htg : ((pc + 3 : Nat) : Int) + off = (tgt : Int)) (kt : ¬ σ ce k = -1 → GX l cc own nL ret mn xt x0 D b tv dp c0 s0 res σ tgt lv st) (kf : σ ce k = -1 → GX l cc own nL ret mn xt x0 D b tv dp c0 s0 res σ (pc + 6) lv st) : GX l cc own nL ret mn xt x0 D b tv dp c0 s0 res σ pc lv (.ref (ad x0 ce) :: st) :=
  gx_getN pc hq hk ht hl hsame hv hd (gx_ifnonnullR (pc + 3) tgt hd2 htg kt kf)
theorem gx_gifnull (pc tgt : Nat) {t k idx : Nat} {ce off : Int} {ref : String} {q : vw_C} (hq : ClsW t q) (hk : k < q.2.2) (ht : tg b σ ce = t) (hl : Cond.fieldLink own idx ref (q.2.1 k).2.1 (q.2.1 k).2.2.1 ∈ lw_all) (hsame : SameF q k ref) (hv : fvl b x0 t k ce (σ ce) = rf x0 (σ ce k)) (hd : decode cc pc = .ok (.getfield idx, 3)) (hd2 : decode cc (pc + 3) = .ok (.ifnull off, 3)) (htg : ((pc + 3 : Nat) : Int) + off = (tgt : Int)) (kt : σ ce k = -1 → GX l cc own nL ret mn xt x0 D b tv dp c0 s0 res σ tgt lv st) (kf : ¬ σ ce k = -1 → GX l cc own nL ret mn xt x0 D b tv dp c0 s0 res σ (pc + 6) lv st) : GX l cc own nL ret mn xt x0 D b tv dp c0 s0 res σ pc lv (.ref (ad x0 ce) :: st) :=
  gx_get pc hq hk ht hl hsame hv hd (gx_ifnullR (pc + 3) tgt hd2 htg kt kf)
theorem gx_gifnullN (pc tgt : Nat) {t k idx : Nat} {ce off : Int} {ref host : String} {q : vw_C} (hq : ClsW t q) (hk : k < q.2.2) (ht : tg b σ ce = t) (hl : Cond.fieldLinkNest own idx ref (q.2.1 k).2.1 (q.2.1 k).2.2.1 host ∈ lw_tbl) (hsame : SameF q k ref) (hv : fvl b x0 t k ce (σ ce) = rf x0 (σ ce k)) (hd : decode cc pc = .ok (.getfield idx, 3)) (hd2 : decode cc (pc + 3) = .ok (.ifnull off, 3)) (htg : ((pc + 3 : Nat) : Int) + off = (tgt : Int)) (kt : σ ce k = -1 → GX l cc own nL ret mn xt x0 D b tv dp c0 s0 res σ tgt lv st) (kf : ¬ σ ce k = -1 → GX l cc own nL ret mn xt x0 D b tv dp c0 s0 res σ (pc + 6) lv st) : GX l cc own nL ret mn xt x0 D b tv dp c0 s0 res σ pc lv (.ref (ad x0 ce) :: st) :=
  gx_getN pc hq hk ht hl hsame hv hd (gx_ifnullR (pc + 3) tgt hd2 htg kt kf)
theorem gx_athrowE (pc : Nat) {r : Int} (hno : xt = []) (hr : r = 8) (ht : tg b σ 8 = 4) (hq : ClsW 4 (RX3, TX3, 8)) (hd : decode cc pc = .ok (.athrow, 1)) (h : some ((1, 0, σ) : RX) = some res) : GX l cc own nL ret mn xt x0 D b tv dp c0 s0 res σ pc lv (.ref (ad x0 r) :: st) := by
  subst hr
  exact gx_athrow pc hno ht hq hd h
end Xmore
/-- every class of ours is an Object -/
theorem xcl_obj : ∀ (ci : Nat) (q : vw_C), xcl[ci]? = some q → Cond.castable q.1 "java/lang/Object" ∈ lw_tbl := fun ci q hq => match ci, hq with
  | 0, hq => by cases hq; exact q2643
  | 1, hq => by cases hq; exact q2644
  | 2, hq => by cases hq; exact q2646
  | 3, hq => by cases hq; exact q2647
  | 4, hq => by cases hq; exact q2648
  | 5, hq => by cases hq; exact q2649
  | 6, hq => by cases hq; exact q2650
  | 7, hq => by cases hq; exact q2641
  | 8, hq => by cases hq; exact q2653
  | 9, hq => by cases hq; exact q2654
  | 10, hq => by cases hq; exact q2655
  | 11, hq => by cases hq; exact q2656
  | 12, hq => by cases hq; exact q2657
  | 13, hq => by cases hq; exact q2658
  | 14, hq => by cases hq; exact q2660
  | 15, hq => by cases hq; exact q2661
  | 16, hq => by cases hq; exact q2662
  | 17, hq => by cases hq; exact q2663
  | 18, hq => by cases hq; exact q2664
  | 19, hq => by cases hq; exact q2665
  | 20, hq => by cases hq; exact q2645
  | 21, hq => by cases hq; exact q2642
  | 22, hq => by cases hq; exact q2659
  | 23, hq => by cases hq; exact q2651
  | n + 24, hq => by simp [xcl] at hq
section Xaast
variable {l : Launch} {nL x0 : Nat} {D : XD} {b : Bool} {tv dp c0 s0 : Nat} {res : RX} {σ : XS} {lv : List (Nat × Value)} {st : List Value} {cc : ByteArray} {own mn : String} {xt : List ExceptionTableEntry} {ret : Option FieldType}
theorem evl_rf {t : Nat} (ht : t = 110 ∨ t = 111 ∨ t = 114) (ce j v : Int) : evl b x0 t ce j v = rf x0 v := by rcases ht with rfl | rfl | rfl <;> rfl
theorem gx_aast0 (pc : Nat) {t : Nat} {ce i r : Int} {τ' : XS} (h3 : t = 110 ∨ t = 111 ∨ t = 114) (ht : tg b σ ce = t) (h0 : 0 ≤ ce) (hm : ¬ (1438 ≤ ce ∧ ce < 1514)) (hi : ok (ln b σ ce) i) (hr : ¬ r = -1) (hs' : τ' = ux σ ce (i32 i) r)
    (hcl : ∀ (p : Program) (s : State) (m : MethodId) (args : Array Value) (meth : Method) (c : Code), XC p s m args meth c cc own nL ret mn xt x0 D → ∀ H : Heap, XRp b x0 D σ H → ∃ (cv : Cell) (k kv kcomp : Class) (comp : ClassId) (ty : FieldType), s.vm.classes[D.2.2.1 t]? = some k ∧ k.kind = .array comp ty ∧ ty.isReference = true ∧ s.vm.classes[comp]? = some kcomp ∧ H[ad x0 r]? = some cv ∧ (∀ q, cv.vm ≠ .statics q) ∧ s.vm.classes[cv.cls]? = some kv ∧ s.vm.assignable cv.cls comp = true)
    (hd : decode cc pc = .ok (.aastore, 1)) (kk : GX l cc own nL ret mn xt x0 D b tv dp c0 s0 res τ' (pc + 1) lv st) : GX l cc own nL ret mn xt x0 D b tv dp c0 s0 res σ pc lv (.ref (ad x0 r) :: J i :: .ref (ad x0 ce) :: st) := by
  have hle := gx_le h0 hs'
  refine ⟨⟨by rw [← hle.1]; exact kk.1.1, by rw [← hle.2]; exact kk.1.2⟩, fun p e s m args below meth c hC H locs ls hR hS hl z1 z2 => ?_⟩
  obtain ⟨cv, k, kv, kcomp, comp, ty, e1, e2, e3, e4, e5, e6, e7, e8⟩ := hcl p s m args meth c hC H hR
  have h1 : 100 ≤ t := by omega
  have hin := ok_inT hi
  refine W.aast hC.1 hC.2.1 (hR.arr ht h1).2 (fun q h => by cases h) (fun h => by cases h) e1 e2 e3 e4 ⟨fun h => hin (Or.inl h), by rw [arrV_size]; exact Nat.not_le.mp fun h => hin (Or.inr h)⟩ e5 e6 e7 e8 rfl rfl hd fun H' f1 f2 f3 => ?_
  rw [← hle.1] at z1 ⊢
  rw [← hle.2] at z2 ⊢
  exact kk.2 p e s m args below meth c hC H' _ ls (gx_ast hR ht h1 h0 hi hs' (by rw [evl_rf h3, rf_ne hr]; exact f1) f2 f3) (hS.put f2 f3 (XA_ad h0 hm)) hl z1 z2
/-- an object into an array of Objects -/
theorem gx_aastO (pc : Nat) {ce i r : Int} {τ' : XS} (ht : tg b σ ce = 110) (h0 : 0 ≤ ce) (hm : ¬ (1438 ≤ ce ∧ ce < 1514)) (hi : ok (ln b σ ce) i) (hr : 0 < tg b σ r ∧ tg b σ r < 100) (hs' : τ' = ux σ ce (i32 i) r) (hd : decode cc pc = .ok (.aastore, 1))
    (hr1 : ¬ r = -1) (kk : GX l cc own nL ret mn xt x0 D b tv dp c0 s0 res τ' (pc + 1) lv st) : GX l cc own nL ret mn xt x0 D b tv dp c0 s0 res σ pc lv (.ref (ad x0 r) :: J i :: .ref (ad x0 ce) :: st) := by
  refine gx_aast0 pc (Or.inl rfl) ht h0 hm hi hr1 hs' (fun p s m args meth c hC H hR => ?_) hd kk
  have hK := hC.2.2.2.2.2.2.2.1
  obtain ⟨kA, comp, k1, k2, k3, -⟩ := (hK.2.1 (110, .object "java/lang/Object") (by decide)).2
  obtain ⟨kc, hkc, -⟩ := Vm.findClass_spec k3
  have hok := (hR.at (t := tg b σ r) rfl hr.1).2.2
  unfold COK at hok
  rw [if_pos hr.2] at hok
  obtain ⟨q, hq, cell, g1, g2, g3, -⟩ := hok
  obtain ⟨hfc, kC, hkC, hkind⟩ := (hK.1 _ _ hq).2
  exact ⟨cell, kA, kC, kc, comp, _, k1, k2, rfl, hkc, g1, (fun z h => by rw [g3] at h; cases h), by rw [g2]; exact hkC, vb_asgC (hK.2.2.1 _ (xcl_obj _ _ hq) rfl) comp cell.cls k3 (by rw [g2]; exact hfc)⟩
/-- a State into the array of States -/
theorem gx_aastS (pc : Nat) {ce i r : Int} {τ' : XS} (ht : tg b σ ce = 114) (h0 : 0 ≤ ce) (hm : ¬ (1438 ≤ ce ∧ ce < 1514)) (hi : ok (ln b σ ce) i) (hr : tg b σ r = 8) (hs' : τ' = ux σ ce (i32 i) r) (hd : decode cc pc = .ok (.aastore, 1))
    (hr1 : ¬ r = -1) (kk : GX l cc own nL ret mn xt x0 D b tv dp c0 s0 res τ' (pc + 1) lv st) : GX l cc own nL ret mn xt x0 D b tv dp c0 s0 res σ pc lv (.ref (ad x0 r) :: J i :: .ref (ad x0 ce) :: st) := by
  refine gx_aast0 pc (Or.inr (Or.inr rfl)) ht h0 hm hi hr1 hs' (fun p s m args meth c hC H hR => ?_) hd kk
  have hK := hC.2.2.2.2.2.2.2.1
  obtain ⟨kA, comp, k1, k2, k3, -⟩ := (hK.2.1 (114, .object "VerbAtDusk$State") (by decide)).2
  obtain ⟨cell, g1, g2, g3, -⟩ := hR.obj hr ⟨by decide, by decide⟩ cw8.2.2.1
  obtain ⟨hfc, kC, hkC, hkind⟩ := (hK.1 _ _ cw8.2.2.1).2
  have hcc : comp = D.1 7 := Option.some.inj (k3.symm.trans hfc)
  subst hcc
  exact ⟨cell, kA, kC, kC, D.1 7, _, k1, k2, rfl, hkC, g1, (fun z h => by rw [g3] at h; cases h), by rw [g2]; exact hkC, by rw [g2]; exact Vm.assignable_self _ _⟩
/-- an int array into an array of such -/
theorem gx_aastI (pc : Nat) {ce i r : Int} {τ' : XS} (ht : tg b σ ce = 111) (h0 : 0 ≤ ce) (hm : ¬ (1438 ≤ ce ∧ ce < 1514)) (hi : ok (ln b σ ce) i) (hr : tg b σ r = 101) (hs' : τ' = ux σ ce (i32 i) r) (hd : decode cc pc = .ok (.aastore, 1))
    (hr1 : ¬ r = -1) (kk : GX l cc own nL ret mn xt x0 D b tv dp c0 s0 res τ' (pc + 1) lv st) : GX l cc own nL ret mn xt x0 D b tv dp c0 s0 res σ pc lv (.ref (ad x0 r) :: J i :: .ref (ad x0 ce) :: st) := by
  refine gx_aast0 pc (Or.inr (Or.inl rfl)) ht h0 hm hi hr1 hs' (fun p s m args meth c hC H hR => ?_) hd kk
  obtain ⟨⟨kA, h1, h2⟩, ⟨k1, h3⟩, -⟩ := hC.2.2.2.2.2.2.2.1.2.2.2.2.1
  have g1 := (hR.arr hr (by decide)).2
  exact ⟨_, kA, k1, k1, D.2.2.1 101, _, h1, h2, rfl, h3, g1, (fun z h => by cases h), h3, Vm.assignable_self _ _⟩
end Xaast
theorem lw_in4 {a b c d : Cond} (h1 : a ∈ lw_all) (h2 : b ∈ lw_all) (h3 : c ∈ lw_all) (h4 : d ∈ lw_all) : ∀ w ∈ [a, b, c, d], w ∈ lw_all := by
  intro w hw
  simp only [List.mem_cons, List.not_mem_nil, or_false] at hw
  rcases hw with e | e | e | e <;> rw [e] <;> assumption
theorem XMet0.ofn {l : Launch} {y : MethodName} {cc : ByteArray} {nL : Nat} {ret : Option FieldType} {d : Nat} {b : Bool} {x0 : Nat} {D : XD} {vals : List Value} {σ : XS} {tv : Nat} {z : Int × XS} (lv : List (Nat × Value)) (own mn : String) (ho : y.cls = own) (hm : y.name = mn) (hy : plainFor y = true) (hlen : (lg_sl vals).length ≤ nL) (hlv : lv_args 0 vals = lv)
    (body : GX l cc own nL ret mn [] x0 D b tv d (nC σ) (nS σ) (0, z) σ 0 lv []) : XMet0 l y cc nL ret d b x0 D vals σ tv z := by
  subst ho; subst hm
  exact XMet0.of lv hy hlen hlv body
theorem XMet.ofn {l : Launch} {y : MethodName} {cc : ByteArray} {nL : Nat} {ret : Option FieldType} {d : Nat} {b : Bool} {x0 : Nat} {D : XD} {vals : List Value} {σ : XS} {tv : Nat} {z : RX} (lv : List (Nat × Value)) (own mn : String) (ho : y.cls = own) (hm : y.name = mn) (hy : plainName y.cls = true) (hlen : (lg_sl vals).length ≤ nL) (hlv : lv_args 0 vals = lv)
    (body : GX l cc own nL ret mn [] x0 D b tv d (nC σ) (nS σ) z σ 0 lv []) : XMet l y cc nL ret d b x0 D vals σ tv z := by
  subst ho; subst hm
  exact XMet.of lv hy hlen hlv body
theorem lw_in5 {a b c d e : Cond} (h1 : a ∈ lw_all) (h2 : b ∈ lw_all) (h3 : c ∈ lw_all) (h4 : d ∈ lw_all) (h5 : e ∈ lw_all) : ∀ w ∈ [a, b, c, d, e], w ∈ lw_all := by
  intro w hw
  simp only [List.mem_cons, List.not_mem_nil, or_false] at hw
  rcases hw with e | e | e | e | e <;> rw [e] <;> assumption
