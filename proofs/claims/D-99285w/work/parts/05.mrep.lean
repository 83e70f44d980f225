/-! THE REFERENCE'S OBJECT: field k, place i -> a number; its arrays lie behind it in the order of their fields -/
set_option maxRecDepth 100000
def mKl : List Nat := [10, 0, 0, 0, 0, 0, 0, 0, 0, 10, 11, 11, 11, 11, 11, 11, 11, 11, 11, 11, 11, 11, 11, 11, 11, 11, 11, 11, 11, 11, 11, 11, 11, 11, 0, 10, 10, 13, 10, 10, 0, 10, 10, 10, 0, 0, 1, 0, 10, 10, 0, 13, 12, 10, 10, 1, 2, 10, 10, 0, 1, 0, 10, 13, 0, 10, 10, 12, 0, 10, 0, 0, 2, 11, 11, 11, 11, 11, 11, 11, 11, 11, 11, 11, 11, 11, 11, 11, 11, 11, 11, 11, 11, 11, 11, 11, 10, 0, 10, 0, 0, 0, 13, 0, 2, 1, 10, 0]
def mNl : List Nat := [1600, 0, 0, 0, 0, 0, 0, 0, 0, 6, 4, 6, 2, 4, 4, 4, 4, 4, 5, 4, 5, 5, 5, 3, 6, 6, 3, 4, 2, 3, 3, 3, 3, 3, 0, 4, 4, 32, 18, 28, 0, 6, 6, 3200, 0, 0, 0, 0, 219, 68, 0, 42, 42, 6, 6, 0, 0, 6, 6, 0, 0, 0, 6, 128, 0, 48, 210, 10, 0, 4380, 0, 0, 0, 5, 4, 5, 5, 4, 5, 3, 3, 2, 3, 3, 3, 4, 4, 4, 5, 3, 6, 6, 3, 4, 5, 4, 1700, 0, 1700, 0, 0, 0, 1700, 0, 0, 0, 70, 0]
def mOl : List Nat := [1, 0, 0, 0, 0, 0, 0, 0, 0, 2, 3, 4, 5, 6, 7, 8, 9, 10, 11, 12, 13, 14, 15, 16, 17, 18, 19, 20, 21, 22, 23, 24, 25, 26, 0, 27, 28, 29, 30, 31, 0, 32, 33, 34, 0, 0, 0, 0, 35, 36, 0, 37, 38, 39, 40, 0, 0, 41, 42, 0, 0, 0, 43, 44, 0, 45, 46, 47, 0, 48, 0, 0, 0, 49, 50, 51, 52, 53, 54, 55, 56, 57, 58, 59, 60, 61, 62, 63, 64, 65, 66, 67, 68, 69, 70, 71, 72, 0, 73, 0, 0, 0, 74, 0, 0, 0, 75, 0]
def mK (k : Nat) : Nat := mKl.getD k 0
def mN (k : Nat) : Nat := mNl.getD k 0
def mO (k : Nat) : Nat := mOl.getD k 0
/-- the fuel of a loop -/
noncomputable def FU : Nat := Classical.choose (p := fun n : Nat => 1000000 ≤ n) ⟨1000000, Nat.le_refl _⟩
theorem FU_ge : 1000000 ≤ FU := Classical.choose_spec (p := fun n : Nat => 1000000 ≤ n) ⟨1000000, Nat.le_refl _⟩
abbrev MS : Type := Nat → Int → Int
def up (σ : MS) (k : Nat) (i x : Int) : MS := fun k' i' => if k' = k ∧ i' = i then x else σ k' i'
theorem up_s (σ : MS) (k : Nat) (i x : Int) : up σ k i x k i = x := by simp [up]
theorem up_k (σ : MS) {k k' : Nat} (i x j : Int) (h : k' ≠ k) : up σ k i x k' j = σ k' j := by simp [up, h]
theorem up_i (σ : MS) (k k' : Nat) {i j : Int} (x : Int) (h : j ≠ i) : up σ k i x k' j = σ k' j := by simp [up, h]
def mV (o : Nat) (σ : MS) (k : Nat) : Value := match mK k with
  | 0 => J (σ k 0)
  | 1 => J (σ k 0)
  | 2 => Lg (σ k 0)
  | _ => .ref (o + mO k)
def mA (cA : Nat → ClassId) (σ : MS) (k : Nat) : Cell := if mK k = 13 then arrV (cA 13) (mN k) (fun j => Lg (σ k (j : Int))) else arrV (cA (mK k)) (mN k) (fun j => J (σ k (j : Int)))
abbrev MD : Type := ClassId × (Nat → Nat) × (Nat → ClassId)
def MRp (D : MD) (o : Nat) (σ : MS) (H : Heap) : Prop := t_OB o D.1 108 D.2.1 H (mV o σ) ∧ ∀ k : Nat, k < 108 → 10 ≤ mK k → H[o + mO k]? = some (mA D.2.2 σ k)
def MK (D : MD) (U : State) : Prop := u_Kn U RX8 TX8 108 D.1 D.2.1 ∧ ArrOfT U (D.2.2 10) .int ∧ ArrOfT U (D.2.2 11) .char ∧ ArrOfT U (D.2.2 12) .boolean ∧ ArrOfT U (D.2.2 13) .long
theorem MK_moved (D : MD) : KMoved (MK D) := fun _ _ hvm h => ⟨u_Kn_moved hvm h.1, arrOfT_moved hvm h.2.1, arrOfT_moved hvm h.2.2.1, arrOfT_moved hvm h.2.2.2.1, arrOfT_moved hvm h.2.2.2.2⟩
/-- the addresses of the reference -/
def mAd (o : Nat) : Nat → Prop := fun q => o ≤ q ∧ q < o + 76
def MIn (A : Nat → Prop) (o : Nat) : Prop := ∀ q, mAd o q → A q
theorem MIn_self (o : Nat) : MIn (mAd o) o := fun _ h => h
theorem mO_pos : ∀ k, k < 108 → 10 ≤ mK k → 0 < mO k ∧ mO k < 76 := by decide +kernel
theorem mO_inj : ∀ j, j < 108 → ∀ k, k < 108 → 10 ≤ mK j → 10 ≤ mK k → mO j = mO k → j = k := by decide +kernel
theorem m_slots {s : State} {args : Array Value} {cC : ClassId} {iS : Nat → Nat} (hts : ∀ w ∈ lw_all, w.before args s = true) (hK : u_Kn s RX8 TX8 108 cC iS) : ∀ x y, x < 108 → y < 108 → x ≠ y → iS x ≠ iS y := by
  intro x y hx hy hne
  obtain ⟨hS, -⟩ := hK
  obtain ⟨_, _, _, fa, hia, ea⟩ := hS x hx
  obtain ⟨_, _, _, fb, hib, eb⟩ := hS y hy
  rw [← ea, ← eb]
  refine u_apart (u_lays hts in_X8 hx) (u_lays hts in_X8 hy) hia hib ?_
  rw [(State.fieldFound?_type hia (tyX8_ok x hx)).1, (State.fieldFound?_type hib (tyX8_ok y hy)).1]
  exact nmX8 x hx y hy hne
theorem mV_up_s {o : Nat} {σ : MS} {k j : Nat} {x : Int} (h : j ≠ k) (i : Int) : mV o (up σ k i x) j = mV o σ j := by
  unfold mV
  split <;> first | rfl | rw [up_k _ _ _ _ h]
theorem mV_up_a {o : Nat} {σ : MS} {k j : Nat} {x : Int} (hk : 10 ≤ mK k) (i : Int) : mV o (up σ k i x) j = mV o σ j := by
  by_cases h : j = k
  · subst h
    unfold mV
    split
    · omega
    · omega
    · omega
    · rfl
  · exact mV_up_s h i
theorem mA_up {cA : Nat → ClassId} {σ : MS} {k j : Nat} {x : Int} (h : j ≠ k) (i : Int) : mA cA (up σ k i x) j = mA cA σ j := by
  unfold mA
  simp only [up_k _ _ _ _ h]
section Mgen
variable {p : Program} {l : Launch} {e : Env} {R : Room} {s : State} {m : MethodId} {args : Array Value} {below : List Frame} {meth : Method} {c : Code} {nL : Nat} {A : Nat → Prop} {tv : Nat} {res : Int × MS} {σ : MS} {lv : List (Nat × Value)} {st : List Value} {cc : ByteArray} {ret : Option FieldType} {D : MD} {o : Nat}
theorem m_recv (hC : GC p s m args meth c cc RX8 nL ret (MK D)) : ∀ H, MRp D o σ H → isObj s RX8 o H := by
  intro H hR
  obtain ⟨⟨cell, q1, q2, q3, q4⟩, -⟩ := hR
  obtain ⟨-, hfc, -⟩ := hC.2.2.2.2.2.2.2.1.1
  exact ⟨cell, q1, by rw [q3]; rfl, by rw [q2]; exact hfc⟩
theorem m_get (pc k : Nat) (hC : GC p s m args meth c cc RX8 nL ret (MK D)) {idx : Nat} {v : Value} (hk : k < 108) (hq : Cond.fieldLink RX8 idx (TX8 k).1 (TX8 k).2.1 (TX8 k).2.2.1 ∈ lw_all) (hv : mV o σ k = v) (hd : decode cc pc = .ok (.getfield idx, 3))
    (kk : GW p l e R s m args below meth c nL A (MRp D o) (MK D) tv res σ (pc + 3) lv (v :: st)) : GW p l e R s m args below meth c nL A (MRp D o) (MK D) tv res σ pc lv (.ref o :: st) := by
  intro H locs ls hR hS hl
  obtain ⟨cell, q1, q2, q3, q4⟩ := hR.1
  obtain ⟨hx, hb, -, hml, hown, hts, -, hKs, hKm⟩ := hC
  obtain ⟨hSl, hfc, kC, hkC, hkind⟩ := hKs.1
  obtain ⟨cf, kf, fi, f, hi, hsl⟩ := hSl k hk
  refine W.getf hx hb hown (hts _ hq) hi (u_facts hfc hkC (u_lays hts in_X8 hk) hi).1 q1 (by rw [q3]; exact fun h => by cases h) (v := v) ?_ rfl rfl hd (kk H locs ls hR hS hl)
  rw [hsl, q4 k hk, hv]
theorem m_put (pc k : Nat) (hC : GC p s m args meth c cc RX8 nL ret (MK D)) (hA : MIn A o) {idx : Nat} {x : Int} {v : Value} {σ' : MS} {ty : FieldType} (hk : k < 108) (hs : mK k < 10) (hq : Cond.fieldLink RX8 idx (TX8 k).1 (TX8 k).2.1 (TX8 k).2.2.1 ∈ lw_all) (hfin : (TX8 k).2.2.2 = false) (hd0 : parseFieldDescriptor (TX8 k).2.2.1 = some ty) (hn : narrow ty v = v) (hfit : fits ty v = true) (hv : mV o (up σ k 0 x) k = v) (hs' : σ' = up σ k 0 x) (hd : decode cc pc = .ok (.putfield idx, 3))
    (kk : GW p l e R s m args below meth c nL A (MRp D o) (MK D) tv res σ' (pc + 3) lv st) : GW p l e R s m args below meth c nL A (MRp D o) (MK D) tv res σ pc lv (v :: .ref o :: st) := by
  subst hs'
  intro H locs ls hR hS hl
  obtain ⟨cell, q1, q2, q3, q4⟩ := hR.1
  obtain ⟨hx, hb, -, hml, hown, hts, -, hKs, hKm⟩ := hC
  have hap := m_slots hts hKs.1
  obtain ⟨hSl, hfc, kC, hkC, hkind⟩ := hKs.1
  obtain ⟨cf, kf, fi, f, hi, hsl⟩ := hSl k hk
  have hlay := hts _ (in_X8 _ (u_in_lay hk))
  unfold u_lay at hlay
  rw [if_neg (by rw [hfin]; decide)] at hlay
  have hst := (u_facts hfc hkC (u_lays hts in_X8 hk) hi).1
  have h6 := u_store hfc hkC hkind hlay hi hd0 hn hfit
  refine W.putK hx hb (f := f) ⟨hown, hts _ hq, ⟨_, _, _, hi⟩, hst⟩ (by rw [q2]; exact h6) q1 q3 (by rw [hsl]; exact k2_hasslot (q4 k hk)) rfl rfl hd fun H' e1 e2 e3 => ?_
  rw [hsl] at e1 ⊢
  refine kk H' _ ls ⟨t_OB.to (V := updV (mV o σ) k v) ⟨_, e1, q2, q3, t_set q4 hap hk v⟩ (fun j _ => ?_), fun j hj h10 => ?_⟩ (hS.put e2 e3 (hA o ⟨Nat.le_refl _, by omega⟩)) hl
  · by_cases h : j = k
    · subst h; simp [updV, hv]
    · simp [updV, h, mV_up_s h]
  · have := mO_pos j hj h10
    rw [e3 (o + mO j) (Nat.ne_of_gt (by omega : o < o + mO j)), hR.2 j hj h10, mA_up (by intro h; subst h; omega)]
theorem m_ldJ {H : Heap} (hR : MRp D o σ H) {k : Nat} (hk : k < 108) {t : Nat} (hK : mK k = t) (ht : 10 ≤ t) (ht2 : t ≠ 13) : H[o + mO k]? = some (arrV (D.2.2 t) (mN k) (fun j => J (σ k (j : Int)))) := by
  rw [hR.2 k hk (by omega)]
  unfold mA
  rw [if_neg (by omega), hK]
theorem m_ldL {H : Heap} (hR : MRp D o σ H) {k : Nat} (hk : k < 108) (hK : mK k = 13) : H[o + mO k]? = some (arrV (D.2.2 13) (mN k) (fun j => Lg (σ k (j : Int)))) := by
  rw [hR.2 k hk (by omega)]
  unfold mA
  rw [if_pos hK]
theorem m_rdv {cA : ClassId} {n : Nat} {i : Int} (h : ok n i) (V : Int → Value) : (arrV cA n (fun j => V (j : Int))).slots[(Int32.ofInt i).toNatClampNeg]? = some (V (i32 i)) := by
  have hlt : (Int32.ofInt i).toNatClampNeg < n := by have := ok_ix h; have := h.2; omega
  rw [arrV_read _ _ hlt, ok_ix h]
theorem m_iald (pc k : Nat) (hC : GC p s m args meth c cc RX8 nL ret (MK D)) {i : Int} (hk : k < 108) (hK : mK k = 10) (hi : ok (mN k) i) (hd : decode cc pc = .ok (.iaload, 1))
    (kk : GW p l e R s m args below meth c nL A (MRp D o) (MK D) tv res σ (pc + 1) lv (J (σ k (i32 i)) :: st)) : GW p l e R s m args below meth c nL A (MRp D o) (MK D) tv res σ pc lv (J i :: .ref (o + mO k) :: st) :=
  fun H locs ls hR hS hl => W.iald hC.1 hC.2.1 (m_ldJ hR hk hK (by decide) (by decide)) (hC.2.2.2.2.2.2.2.1.2.1 _ _) (fun q => by cases q) (by rw [arrV_size]; exact ok_in hi) (m_rdv hi (fun z => J (σ k z))) rfl rfl hd (kk H locs ls hR hS hl)
theorem m_cald (pc k : Nat) (hC : GC p s m args meth c cc RX8 nL ret (MK D)) {i : Int} (hk : k < 108) (hK : mK k = 11) (hi : ok (mN k) i) (hd : decode cc pc = .ok (.caload, 1))
    (kk : GW p l e R s m args below meth c nL A (MRp D o) (MK D) tv res σ (pc + 1) lv (J (σ k (i32 i)) :: st)) : GW p l e R s m args below meth c nL A (MRp D o) (MK D) tv res σ pc lv (J i :: .ref (o + mO k) :: st) :=
  fun H locs ls hR hS hl => W.cald hC.1 hC.2.1 (m_ldJ hR hk hK (by decide) (by decide)) (hC.2.2.2.2.2.2.2.1.2.2.1 _ _) (fun q => by cases q) (by rw [arrV_size]; exact ok_in hi) (m_rdv hi (fun z => J (σ k z))) rfl rfl hd (kk H locs ls hR hS hl)
theorem m_zald (pc k : Nat) (hC : GC p s m args meth c cc RX8 nL ret (MK D)) {i : Int} (hk : k < 108) (hK : mK k = 12) (hi : ok (mN k) i) (hd : decode cc pc = .ok (.baload, 1))
    (kk : GW p l e R s m args below meth c nL A (MRp D o) (MK D) tv res σ (pc + 1) lv (J (σ k (i32 i)) :: st)) : GW p l e R s m args below meth c nL A (MRp D o) (MK D) tv res σ pc lv (J i :: .ref (o + mO k) :: st) :=
  fun H locs ls hR hS hl => W.zald hC.1 hC.2.1 (m_ldJ hR hk hK (by decide) (by decide)) (hC.2.2.2.2.2.2.2.1.2.2.2.1 _ _) (fun q => by cases q) (by rw [arrV_size]; exact ok_in hi) (m_rdv hi (fun z => J (σ k z))) rfl rfl hd (kk H locs ls hR hS hl)
theorem m_lald (pc k : Nat) (hC : GC p s m args meth c cc RX8 nL ret (MK D)) {i : Int} (hk : k < 108) (hK : mK k = 13) (hi : ok (mN k) i) (hd : decode cc pc = .ok (.laload, 1))
    (kk : GW p l e R s m args below meth c nL A (MRp D o) (MK D) tv res σ (pc + 1) lv (Lg (σ k (i32 i)) :: st)) : GW p l e R s m args below meth c nL A (MRp D o) (MK D) tv res σ pc lv (J i :: .ref (o + mO k) :: st) :=
  fun H locs ls hR hS hl => W.lald hC.1 hC.2.1 (m_ldL hR hk hK) (hC.2.2.2.2.2.2.2.1.2.2.2.2 _ _) (fun q => by cases q) (by rw [arrV_size]; exact ok_in hi) (m_rdv hi (fun z => Lg (σ k z))) rfl rfl hd (kk H locs ls hR hS hl)
theorem m_alen (pc k : Nat) (hC : GC p s m args meth c cc RX8 nL ret (MK D)) (hk : k < 108) (hK : mK k = 11) (hd : decode cc pc = .ok (.arraylength, 1))
    (kk : GW p l e R s m args below meth c nL A (MRp D o) (MK D) tv res σ (pc + 1) lv (J (mN k : Int) :: st)) : GW p l e R s m args below meth c nL A (MRp D o) (MK D) tv res σ pc lv (.ref (o + mO k) :: st) :=
  fun H locs ls hR hS hl => W.alen (n := Int32.ofInt (mN k : Int)) hC.1 hC.2.1 (m_ldJ hR hk hK (by decide) (by decide)) (hC.2.2.2.2.2.2.2.1.2.2.1 _ _) (by rw [arrV_size]; rfl) rfl rfl hd (kk H locs ls hR hS hl)
/-- a store into an array gives the picture of the new state -/
theorem m_stored {H H' : Heap} (hR : MRp D o σ H) {k : Nat} (hk : k < 108) (h10 : 10 ≤ mK k) {i x : Int} (e1 : H'[o + mO k]? = some (mA D.2.2 (up σ k i x) k)) (e3 : ∀ q, q ≠ o + mO k → H'[q]? = H[q]?) : MRp D o (up σ k i x) H' := by
  have h0 := mO_pos k hk h10
  refine ⟨t_OB.to (V := mV o σ) (hR.1.kept (e3 o (by omega))) (fun j _ => (mV_up_a h10 i).symm), fun j hj hj10 => ?_⟩
  by_cases h : j = k
  · subst h; exact e1
  · rw [e3 _ (fun q => h (mO_inj j hj k hk hj10 h10 (by omega))), hR.2 j hj hj10, mA_up h]
theorem m_arr {cA : ClassId} {n k : Nat} {i x : Int} (h : ok n i) (V : Int → Value) : (arrV cA n (fun j => V (σ k (j : Int)))).setSlot (Int32.ofInt i).toNatClampNeg (V x) = arrV cA n (fun j => V (up σ k (i32 i) x k (j : Int))) := by
  rw [arrV_store]
  congr 1
  funext j
  have := ok_ix h
  by_cases hj : j = (Int32.ofInt i).toNatClampNeg
  · subst hj; rw [updV, if_pos rfl, this, up_s]
  · rw [updV, if_neg hj, up_i _ _ _ _ (by omega)]
theorem m_iast (pc k : Nat) (hC : GC p s m args meth c cc RX8 nL ret (MK D)) (hA : MIn A o) {i x : Int} {σ' : MS} (hk : k < 108) (hK : mK k = 10) (hi : ok (mN k) i) (hs' : σ' = up σ k (i32 i) x) (hd : decode cc pc = .ok (.iastore, 1))
    (kk : GW p l e R s m args below meth c nL A (MRp D o) (MK D) tv res σ' (pc + 1) lv st) : GW p l e R s m args below meth c nL A (MRp D o) (MK D) tv res σ pc lv (J x :: J i :: .ref (o + mO k) :: st) := by
  subst hs'
  intro H locs ls hR hS hl
  have h0 := mO_pos k hk (by omega)
  refine W.iast hC.1 hC.2.1 (m_ldJ hR hk hK (by decide) (by decide)) (hC.2.2.2.2.2.2.2.1.2.1 _ _) (fun q => by cases q) (by rw [arrV_size]; exact ok_in hi) rfl rfl hd fun H1 e1 e2 e3 => ?_
  exact kk H1 _ ls (m_stored hR hk (by omega) (by rw [e1]; unfold mA; rw [if_neg (by omega), hK]; exact congrArg some (m_arr hi J)) e3) (hS.put e2 e3 (hA _ ⟨by omega, by omega⟩)) hl
theorem m_zast (pc k : Nat) (hC : GC p s m args meth c cc RX8 nL ret (MK D)) (hA : MIn A o) {i x : Int} {σ' : MS} (hk : k < 108) (hK : mK k = 12) (hi : ok (mN k) i) (hb : bz x) (hs' : σ' = up σ k (i32 i) x) (hd : decode cc pc = .ok (.bastore, 1))
    (kk : GW p l e R s m args below meth c nL A (MRp D o) (MK D) tv res σ' (pc + 1) lv st) : GW p l e R s m args below meth c nL A (MRp D o) (MK D) tv res σ pc lv (J x :: J i :: .ref (o + mO k) :: st) := by
  subst hs'
  intro H locs ls hR hS hl
  have h0 := mO_pos k hk (by omega)
  refine W.zast hC.1 hC.2.1 (m_ldJ hR hk hK (by decide) (by decide)) (hC.2.2.2.2.2.2.2.1.2.2.2.1 _ _) (fun q => by cases q) (by rw [arrV_size]; exact ok_in hi) rfl rfl hd fun H1 e1 e2 e3 => ?_
  have hn : narrow .boolean (.int (Int32.ofInt x)) = J x := bz_narrow hb
  exact kk H1 _ ls (m_stored hR hk (by omega) (by rw [e1, hn]; unfold mA; rw [if_neg (by omega), hK]; exact congrArg some (m_arr hi J)) e3) (hS.put e2 e3 (hA _ ⟨by omega, by omega⟩)) hl
theorem m_last (pc k : Nat) (hC : GC p s m args meth c cc RX8 nL ret (MK D)) (hA : MIn A o) {i x : Int} {σ' : MS} (hk : k < 108) (hK : mK k = 13) (hi : ok (mN k) i) (hs' : σ' = up σ k (i32 i) x) (hd : decode cc pc = .ok (.lastore, 1))
    (kk : GW p l e R s m args below meth c nL A (MRp D o) (MK D) tv res σ' (pc + 1) lv st) : GW p l e R s m args below meth c nL A (MRp D o) (MK D) tv res σ pc lv (Lg x :: J i :: .ref (o + mO k) :: st) := by
  subst hs'
  intro H locs ls hR hS hl
  have h0 := mO_pos k hk (by omega)
  refine W.last hC.1 hC.2.1 (m_ldL hR hk hK) (hC.2.2.2.2.2.2.2.1.2.2.2.2 _ _) (fun q => by cases q) (by rw [arrV_size]; exact ok_in hi) rfl rfl hd fun H1 e1 e2 e3 => ?_
  exact kk H1 _ ls (m_stored hR hk (by omega) (by rw [e1]; unfold mA; rw [if_pos hK]; exact congrArg some (m_arr hi Lg)) e3) (hS.put e2 e3 (hA _ ⟨by omega, by omega⟩)) hl
end Mgen
section Mrows
variable {p : Program} {l : Launch} {e : Env} {R : Room} {s : State} {m : MethodId} {args : Array Value} {below : List Frame} {meth : Method} {c : Code} {nL : Nat} {A : Nat → Prop} {tv : Nat} {res : Int × MS} {σ : MS} {lv : List (Nat × Value)} {st : List Value} {cc : ByteArray} {ret : Option FieldType} {D : MD} {o : Nat}
/-- tape -/
theorem mg_0 (pc : Nat) (hC : GC p s m args meth c cc RX8 nL ret (MK D)) (hd : decode cc pc = .ok (.getfield 7, 3)) (kk : GW p l e R s m args below meth c nL A (MRp D o) (MK D) tv res σ (pc + 3) lv (.ref (o + mO 0) :: st)) : GW p l e R s m args below meth c nL A (MRp D o) (MK D) tv res σ pc lv (.ref o :: st) := m_get pc 0 hC (by decide) q1752 rfl hd kk
/-- taped -/
theorem mg_1 (pc : Nat) (hC : GC p s m args meth c cc RX8 nL ret (MK D)) (hd : decode cc pc = .ok (.getfield 246, 3)) (kk : GW p l e R s m args below meth c nL A (MRp D o) (MK D) tv res σ (pc + 3) lv (J (σ 1 0) :: st)) : GW p l e R s m args below meth c nL A (MRp D o) (MK D) tv res σ pc lv (.ref o :: st) := m_get pc 1 hC (by decide) q1753 rfl hd kk
theorem mp_1 (pc : Nat) (hC : GC p s m args meth c cc RX8 nL ret (MK D)) {x : Int} {σ' : MS} (hA : MIn A o) (hs' : σ' = up σ 1 0 x) (hd : decode cc pc = .ok (.putfield 246, 3)) (kk : GW p l e R s m args below meth c nL A (MRp D o) (MK D) tv res σ' (pc + 3) lv st) : GW p l e R s m args below meth c nL A (MRp D o) (MK D) tv res σ pc lv (J x :: .ref o :: st) := m_put pc 1 (ty := .int) hC hA (by decide) (by decide) q1753 rfl (by decide +kernel) rfl rfl rfl hs' hd kk
/-- at -/
theorem mg_2 (pc : Nat) (hC : GC p s m args meth c cc RX8 nL ret (MK D)) (hd : decode cc pc = .ok (.getfield 255, 3)) (kk : GW p l e R s m args below meth c nL A (MRp D o) (MK D) tv res σ (pc + 3) lv (J (σ 2 0) :: st)) : GW p l e R s m args below meth c nL A (MRp D o) (MK D) tv res σ pc lv (.ref o :: st) := m_get pc 2 hC (by decide) q1754 rfl hd kk
theorem mp_2 (pc : Nat) (hC : GC p s m args meth c cc RX8 nL ret (MK D)) {x : Int} {σ' : MS} (hA : MIn A o) (hs' : σ' = up σ 2 0 x) (hd : decode cc pc = .ok (.putfield 255, 3)) (kk : GW p l e R s m args below meth c nL A (MRp D o) (MK D) tv res σ' (pc + 3) lv st) : GW p l e R s m args below meth c nL A (MRp D o) (MK D) tv res σ pc lv (J x :: .ref o :: st) := m_put pc 2 (ty := .int) hC hA (by decide) (by decide) q1754 rfl (by decide +kernel) rfl rfl rfl hs' hd kk
/-- end -/
theorem mg_3 (pc : Nat) (hC : GC p s m args meth c cc RX8 nL ret (MK D)) (hd : decode cc pc = .ok (.getfield 258, 3)) (kk : GW p l e R s m args below meth c nL A (MRp D o) (MK D) tv res σ (pc + 3) lv (J (σ 3 0) :: st)) : GW p l e R s m args below meth c nL A (MRp D o) (MK D) tv res σ pc lv (.ref o :: st) := m_get pc 3 hC (by decide) q1755 rfl hd kk
theorem mp_3 (pc : Nat) (hC : GC p s m args meth c cc RX8 nL ret (MK D)) {x : Int} {σ' : MS} (hA : MIn A o) (hs' : σ' = up σ 3 0 x) (hd : decode cc pc = .ok (.putfield 258, 3)) (kk : GW p l e R s m args below meth c nL A (MRp D o) (MK D) tv res σ' (pc + 3) lv st) : GW p l e R s m args below meth c nL A (MRp D o) (MK D) tv res σ pc lv (J x :: .ref o :: st) := m_put pc 3 (ty := .int) hC hA (by decide) (by decide) q1755 rfl (by decide +kernel) rfl rfl rfl hs' hd kk
/-- ended -/
theorem mg_4 (pc : Nat) (hC : GC p s m args meth c cc RX8 nL ret (MK D)) (hd : decode cc pc = .ok (.getfield 269, 3)) (kk : GW p l e R s m args below meth c nL A (MRp D o) (MK D) tv res σ (pc + 3) lv (J (σ 4 0) :: st)) : GW p l e R s m args below meth c nL A (MRp D o) (MK D) tv res σ pc lv (.ref o :: st) := m_get pc 4 hC (by decide) q1756 rfl hd kk
theorem mp_4 (pc : Nat) (hC : GC p s m args meth c cc RX8 nL ret (MK D)) {x : Int} {σ' : MS} (hA : MIn A o) (hs' : σ' = up σ 4 0 x) (hd : decode cc pc = .ok (.putfield 269, 3)) (kk : GW p l e R s m args below meth c nL A (MRp D o) (MK D) tv res σ' (pc + 3) lv st) : GW p l e R s m args below meth c nL A (MRp D o) (MK D) tv res σ pc lv (J x :: .ref o :: st) := m_put pc 4 (ty := .int) hC hA (by decide) (by decide) q1756 rfl (by decide +kernel) rfl rfl rfl hs' hd kk
/-- bad -/
theorem mg_5 (pc : Nat) (hC : GC p s m args meth c cc RX8 nL ret (MK D)) (hd : decode cc pc = .ok (.getfield 249, 3)) (kk : GW p l e R s m args below meth c nL A (MRp D o) (MK D) tv res σ (pc + 3) lv (J (σ 5 0) :: st)) : GW p l e R s m args below meth c nL A (MRp D o) (MK D) tv res σ pc lv (.ref o :: st) := m_get pc 5 hC (by decide) q1757 rfl hd kk
theorem mp_5 (pc : Nat) (hC : GC p s m args meth c cc RX8 nL ret (MK D)) {x : Int} {σ' : MS} (hA : MIn A o) (hs' : σ' = up σ 5 0 x) (hd : decode cc pc = .ok (.putfield 249, 3)) (kk : GW p l e R s m args below meth c nL A (MRp D o) (MK D) tv res σ' (pc + 3) lv st) : GW p l e R s m args below meth c nL A (MRp D o) (MK D) tv res σ pc lv (J x :: .ref o :: st) := m_put pc 5 (ty := .int) hC hA (by decide) (by decide) q1757 rfl (by decide +kernel) rfl rfl rfl hs' hd kk
/-- badPlace -/
theorem mg_6 (pc : Nat) (hC : GC p s m args meth c cc RX8 nL ret (MK D)) (hd : decode cc pc = .ok (.getfield 252, 3)) (kk : GW p l e R s m args below meth c nL A (MRp D o) (MK D) tv res σ (pc + 3) lv (J (σ 6 0) :: st)) : GW p l e R s m args below meth c nL A (MRp D o) (MK D) tv res σ pc lv (.ref o :: st) := m_get pc 6 hC (by decide) q1758 rfl hd kk
theorem mp_6 (pc : Nat) (hC : GC p s m args meth c cc RX8 nL ret (MK D)) {x : Int} {σ' : MS} (hA : MIn A o) (hs' : σ' = up σ 6 0 x) (hd : decode cc pc = .ok (.putfield 252, 3)) (kk : GW p l e R s m args below meth c nL A (MRp D o) (MK D) tv res σ' (pc + 3) lv st) : GW p l e R s m args below meth c nL A (MRp D o) (MK D) tv res σ pc lv (J x :: .ref o :: st) := m_put pc 6 (ty := .int) hC hA (by decide) (by decide) q1758 rfl (by decide +kernel) rfl rfl rfl hs' hd kk
/-- fault -/
theorem mg_7 (pc : Nat) (hC : GC p s m args meth c cc RX8 nL ret (MK D)) (hd : decode cc pc = .ok (.getfield 371, 3)) (kk : GW p l e R s m args below meth c nL A (MRp D o) (MK D) tv res σ (pc + 3) lv (J (σ 7 0) :: st)) : GW p l e R s m args below meth c nL A (MRp D o) (MK D) tv res σ pc lv (.ref o :: st) := m_get pc 7 hC (by decide) q1759 rfl hd kk
theorem mp_7 (pc : Nat) (hC : GC p s m args meth c cc RX8 nL ret (MK D)) {x : Int} {σ' : MS} (hA : MIn A o) (hs' : σ' = up σ 7 0 x) (hd : decode cc pc = .ok (.putfield 371, 3)) (kk : GW p l e R s m args below meth c nL A (MRp D o) (MK D) tv res σ' (pc + 3) lv st) : GW p l e R s m args below meth c nL A (MRp D o) (MK D) tv res σ pc lv (J x :: .ref o :: st) := m_put pc 7 (ty := .int) hC hA (by decide) (by decide) q1759 rfl (by decide +kernel) rfl rfl rfl hs' hd kk
/-- faultPlace -/
theorem mg_8 (pc : Nat) (hC : GC p s m args meth c cc RX8 nL ret (MK D)) (hd : decode cc pc = .ok (.getfield 13, 3)) (kk : GW p l e R s m args below meth c nL A (MRp D o) (MK D) tv res σ (pc + 3) lv (J (σ 8 0) :: st)) : GW p l e R s m args below meth c nL A (MRp D o) (MK D) tv res σ pc lv (.ref o :: st) := m_get pc 8 hC (by decide) q1760 rfl hd kk
theorem mp_8 (pc : Nat) (hC : GC p s m args meth c cc RX8 nL ret (MK D)) {x : Int} {σ' : MS} (hA : MIn A o) (hs' : σ' = up σ 8 0 x) (hd : decode cc pc = .ok (.putfield 13, 3)) (kk : GW p l e R s m args below meth c nL A (MRp D o) (MK D) tv res σ' (pc + 3) lv st) : GW p l e R s m args below meth c nL A (MRp D o) (MK D) tv res σ pc lv (J x :: .ref o :: st) := m_put pc 8 (ty := .int) hC hA (by decide) (by decide) q1760 rfl (by decide +kernel) rfl rfl rfl hs' hd kk
/-- refused -/
theorem mg_9 (pc : Nat) (hC : GC p s m args meth c cc RX8 nL ret (MK D)) (hd : decode cc pc = .ok (.getfield 17, 3)) (kk : GW p l e R s m args below meth c nL A (MRp D o) (MK D) tv res σ (pc + 3) lv (.ref (o + mO 9) :: st)) : GW p l e R s m args below meth c nL A (MRp D o) (MK D) tv res σ pc lv (.ref o :: st) := m_get pc 9 hC (by decide) q1761 rfl hd kk
/-- duskWord -/
theorem mg_10 (pc : Nat) (hC : GC p s m args meth c cc RX8 nL ret (MK D)) (hd : decode cc pc = .ok (.getfield 20, 3)) (kk : GW p l e R s m args below meth c nL A (MRp D o) (MK D) tv res σ (pc + 3) lv (.ref (o + mO 10) :: st)) : GW p l e R s m args below meth c nL A (MRp D o) (MK D) tv res σ pc lv (.ref o :: st) := m_get pc 10 hC (by decide) q1762 rfl hd kk
/-- sayingWord -/
theorem mg_11 (pc : Nat) (hC : GC p s m args meth c cc RX8 nL ret (MK D)) (hd : decode cc pc = .ok (.getfield 24, 3)) (kk : GW p l e R s m args below meth c nL A (MRp D o) (MK D) tv res σ (pc + 3) lv (.ref (o + mO 11) :: st)) : GW p l e R s m args below meth c nL A (MRp D o) (MK D) tv res σ pc lv (.ref o :: st) := m_get pc 11 hC (by decide) q1763 rfl hd kk
/-- atWord -/
theorem mg_12 (pc : Nat) (hC : GC p s m args meth c cc RX8 nL ret (MK D)) (hd : decode cc pc = .ok (.getfield 27, 3)) (kk : GW p l e R s m args below meth c nL A (MRp D o) (MK D) tv res σ (pc + 3) lv (.ref (o + mO 12) :: st)) : GW p l e R s m args below meth c nL A (MRp D o) (MK D) tv res σ pc lv (.ref o :: st) := m_get pc 12 hC (by decide) q1764 rfl hd kk
/-- toneWord -/
theorem mg_13 (pc : Nat) (hC : GC p s m args meth c cc RX8 nL ret (MK D)) (hd : decode cc pc = .ok (.getfield 30, 3)) (kk : GW p l e R s m args below meth c nL A (MRp D o) (MK D) tv res σ (pc + 3) lv (.ref (o + mO 13) :: st)) : GW p l e R s m args below meth c nL A (MRp D o) (MK D) tv res σ pc lv (.ref o :: st) := m_get pc 13 hC (by decide) q1765 rfl hd kk
/-- verbWord -/
theorem mg_14 (pc : Nat) (hC : GC p s m args meth c cc RX8 nL ret (MK D)) (hd : decode cc pc = .ok (.getfield 33, 3)) (kk : GW p l e R s m args below meth c nL A (MRp D o) (MK D) tv res σ (pc + 3) lv (.ref (o + mO 14) :: st)) : GW p l e R s m args below meth c nL A (MRp D o) (MK D) tv res σ pc lv (.ref o :: st) := m_get pc 14 hC (by decide) q1766 rfl hd kk
/-- kindWord -/
theorem mg_15 (pc : Nat) (hC : GC p s m args meth c cc RX8 nL ret (MK D)) (hd : decode cc pc = .ok (.getfield 36, 3)) (kk : GW p l e R s m args below meth c nL A (MRp D o) (MK D) tv res σ (pc + 3) lv (.ref (o + mO 15) :: st)) : GW p l e R s m args below meth c nL A (MRp D o) (MK D) tv res σ pc lv (.ref o :: st) := m_get pc 15 hC (by decide) q1767 rfl hd kk
/-- mildWord -/
theorem mg_16 (pc : Nat) (hC : GC p s m args meth c cc RX8 nL ret (MK D)) (hd : decode cc pc = .ok (.getfield 39, 3)) (kk : GW p l e R s m args below meth c nL A (MRp D o) (MK D) tv res σ (pc + 3) lv (.ref (o + mO 16) :: st)) : GW p l e R s m args below meth c nL A (MRp D o) (MK D) tv res σ pc lv (.ref o :: st) := m_get pc 16 hC (by decide) q1768 rfl hd kk
/-- lentWord -/
theorem mg_17 (pc : Nat) (hC : GC p s m args meth c cc RX8 nL ret (MK D)) (hd : decode cc pc = .ok (.getfield 42, 3)) (kk : GW p l e R s m args below meth c nL A (MRp D o) (MK D) tv res σ (pc + 3) lv (.ref (o + mO 17) :: st)) : GW p l e R s m args below meth c nL A (MRp D o) (MK D) tv res σ pc lv (.ref o :: st) := m_get pc 17 hC (by decide) q1769 rfl hd kk
/-- takesWord -/
theorem mg_18 (pc : Nat) (hC : GC p s m args meth c cc RX8 nL ret (MK D)) (hd : decode cc pc = .ok (.getfield 45, 3)) (kk : GW p l e R s m args below meth c nL A (MRp D o) (MK D) tv res σ (pc + 3) lv (.ref (o + mO 18) :: st)) : GW p l e R s m args below meth c nL A (MRp D o) (MK D) tv res σ pc lv (.ref o :: st) := m_get pc 18 hC (by decide) q1770 rfl hd kk
/-- wellWord -/
theorem mg_19 (pc : Nat) (hC : GC p s m args meth c cc RX8 nL ret (MK D)) (hd : decode cc pc = .ok (.getfield 48, 3)) (kk : GW p l e R s m args below meth c nL A (MRp D o) (MK D) tv res σ (pc + 3) lv (.ref (o + mO 19) :: st)) : GW p l e R s m args below meth c nL A (MRp D o) (MK D) tv res σ pc lv (.ref o :: st) := m_get pc 19 hC (by decide) q1771 rfl hd kk
/-- turnsWord -/
theorem mg_20 (pc : Nat) (hC : GC p s m args meth c cc RX8 nL ret (MK D)) (hd : decode cc pc = .ok (.getfield 51, 3)) (kk : GW p l e R s m args below meth c nL A (MRp D o) (MK D) tv res σ (pc + 3) lv (.ref (o + mO 20) :: st)) : GW p l e R s m args below meth c nL A (MRp D o) (MK D) tv res σ pc lv (.ref o :: st) := m_get pc 20 hC (by decide) q1772 rfl hd kk
/-- ditchWord -/
theorem mg_21 (pc : Nat) (hC : GC p s m args meth c cc RX8 nL ret (MK D)) (hd : decode cc pc = .ok (.getfield 54, 3)) (kk : GW p l e R s m args below meth c nL A (MRp D o) (MK D) tv res σ (pc + 3) lv (.ref (o + mO 21) :: st)) : GW p l e R s m args below meth c nL A (MRp D o) (MK D) tv res σ pc lv (.ref o :: st) := m_get pc 21 hC (by decide) q1773 rfl hd kk
/-- givenWord -/
theorem mg_22 (pc : Nat) (hC : GC p s m args meth c cc RX8 nL ret (MK D)) (hd : decode cc pc = .ok (.getfield 57, 3)) (kk : GW p l e R s m args below meth c nL A (MRp D o) (MK D) tv res σ (pc + 3) lv (.ref (o + mO 22) :: st)) : GW p l e R s m args below meth c nL A (MRp D o) (MK D) tv res σ pc lv (.ref o :: st) := m_get pc 22 hC (by decide) q1774 rfl hd kk
/-- dayWord -/
theorem mg_23 (pc : Nat) (hC : GC p s m args meth c cc RX8 nL ret (MK D)) (hd : decode cc pc = .ok (.getfield 60, 3)) (kk : GW p l e R s m args below meth c nL A (MRp D o) (MK D) tv res σ (pc + 3) lv (.ref (o + mO 23) :: st)) : GW p l e R s m args below meth c nL A (MRp D o) (MK D) tv res σ pc lv (.ref o :: st) := m_get pc 23 hC (by decide) q1775 rfl hd kk
/-- numberWord -/
theorem mg_24 (pc : Nat) (hC : GC p s m args meth c cc RX8 nL ret (MK D)) (hd : decode cc pc = .ok (.getfield 63, 3)) (kk : GW p l e R s m args below meth c nL A (MRp D o) (MK D) tv res σ (pc + 3) lv (.ref (o + mO 24) :: st)) : GW p l e R s m args below meth c nL A (MRp D o) (MK D) tv res σ pc lv (.ref o :: st) := m_get pc 24 hC (by decide) q1776 rfl hd kk
/-- columnWord -/
theorem mg_25 (pc : Nat) (hC : GC p s m args meth c cc RX8 nL ret (MK D)) (hd : decode cc pc = .ok (.getfield 66, 3)) (kk : GW p l e R s m args below meth c nL A (MRp D o) (MK D) tv res σ (pc + 3) lv (.ref (o + mO 25) :: st)) : GW p l e R s m args below meth c nL A (MRp D o) (MK D) tv res σ pc lv (.ref o :: st) := m_get pc 25 hC (by decide) q1777 rfl hd kk
/-- rowWord -/
theorem mg_26 (pc : Nat) (hC : GC p s m args meth c cc RX8 nL ret (MK D)) (hd : decode cc pc = .ok (.getfield 69, 3)) (kk : GW p l e R s m args below meth c nL A (MRp D o) (MK D) tv res σ (pc + 3) lv (.ref (o + mO 26) :: st)) : GW p l e R s m args below meth c nL A (MRp D o) (MK D) tv res σ pc lv (.ref o :: st) := m_get pc 26 hC (by decide) q1778 rfl hd kk
/-- getsWord -/
theorem mg_27 (pc : Nat) (hC : GC p s m args meth c cc RX8 nL ret (MK D)) (hd : decode cc pc = .ok (.getfield 72, 3)) (kk : GW p l e R s m args below meth c nL A (MRp D o) (MK D) tv res σ (pc + 3) lv (.ref (o + mO 27) :: st)) : GW p l e R s m args below meth c nL A (MRp D o) (MK D) tv res σ pc lv (.ref o :: st) := m_get pc 27 hC (by decide) q1779 rfl hd kk
/-- orWord -/
theorem mg_28 (pc : Nat) (hC : GC p s m args meth c cc RX8 nL ret (MK D)) (hd : decode cc pc = .ok (.getfield 75, 3)) (kk : GW p l e R s m args below meth c nL A (MRp D o) (MK D) tv res σ (pc + 3) lv (.ref (o + mO 28) :: st)) : GW p l e R s m args below meth c nL A (MRp D o) (MK D) tv res σ pc lv (.ref o :: st) := m_get pc 28 hC (by decide) q1780 rfl hd kk
/-- andWord -/
theorem mg_29 (pc : Nat) (hC : GC p s m args meth c cc RX8 nL ret (MK D)) (hd : decode cc pc = .ok (.getfield 78, 3)) (kk : GW p l e R s m args below meth c nL A (MRp D o) (MK D) tv res σ (pc + 3) lv (.ref (o + mO 29) :: st)) : GW p l e R s m args below meth c nL A (MRp D o) (MK D) tv res σ pc lv (.ref o :: st) := m_get pc 29 hC (by decide) q1781 rfl hd kk
/-- notWord -/
theorem mg_30 (pc : Nat) (hC : GC p s m args meth c cc RX8 nL ret (MK D)) (hd : decode cc pc = .ok (.getfield 81, 3)) (kk : GW p l e R s m args below meth c nL A (MRp D o) (MK D) tv res σ (pc + 3) lv (.ref (o + mO 30) :: st)) : GW p l e R s m args below meth c nL A (MRp D o) (MK D) tv res σ pc lv (.ref o :: st) := m_get pc 30 hC (by decide) q1782 rfl hd kk
/-- allWord -/
theorem mg_31 (pc : Nat) (hC : GC p s m args meth c cc RX8 nL ret (MK D)) (hd : decode cc pc = .ok (.getfield 84, 3)) (kk : GW p l e R s m args below meth c nL A (MRp D o) (MK D) tv res σ (pc + 3) lv (.ref (o + mO 31) :: st)) : GW p l e R s m args below meth c nL A (MRp D o) (MK D) tv res σ pc lv (.ref o :: st) := m_get pc 31 hC (by decide) q1783 rfl hd kk
/-- minWord -/
theorem mg_32 (pc : Nat) (hC : GC p s m args meth c cc RX8 nL ret (MK D)) (hd : decode cc pc = .ok (.getfield 87, 3)) (kk : GW p l e R s m args below meth c nL A (MRp D o) (MK D) tv res σ (pc + 3) lv (.ref (o + mO 32) :: st)) : GW p l e R s m args below meth c nL A (MRp D o) (MK D) tv res σ pc lv (.ref o :: st) := m_get pc 32 hC (by decide) q1784 rfl hd kk
/-- maxWord -/
theorem mg_33 (pc : Nat) (hC : GC p s m args meth c cc RX8 nL ret (MK D)) (hd : decode cc pc = .ok (.getfield 90, 3)) (kk : GW p l e R s m args below meth c nL A (MRp D o) (MK D) tv res σ (pc + 3) lv (.ref (o + mO 33) :: st)) : GW p l e R s m args below meth c nL A (MRp D o) (MK D) tv res σ pc lv (.ref o :: st) := m_get pc 33 hC (by decide) q1785 rfl hd kk
/-- namePlace -/
theorem mg_34 (pc : Nat) (hC : GC p s m args meth c cc RX8 nL ret (MK D)) (hd : decode cc pc = .ok (.getfield 297, 3)) (kk : GW p l e R s m args below meth c nL A (MRp D o) (MK D) tv res σ (pc + 3) lv (J (σ 34 0) :: st)) : GW p l e R s m args below meth c nL A (MRp D o) (MK D) tv res σ pc lv (.ref o :: st) := m_get pc 34 hC (by decide) q1786 rfl hd kk
theorem mp_34 (pc : Nat) (hC : GC p s m args meth c cc RX8 nL ret (MK D)) {x : Int} {σ' : MS} (hA : MIn A o) (hs' : σ' = up σ 34 0 x) (hd : decode cc pc = .ok (.putfield 297, 3)) (kk : GW p l e R s m args below meth c nL A (MRp D o) (MK D) tv res σ' (pc + 3) lv st) : GW p l e R s m args below meth c nL A (MRp D o) (MK D) tv res σ pc lv (J x :: .ref o :: st) := m_put pc 34 (ty := .int) hC hA (by decide) (by decide) q1786 rfl (by decide +kernel) rfl rfl rfl hs' hd kk
/-- dusk -/
theorem mg_35 (pc : Nat) (hC : GC p s m args meth c cc RX8 nL ret (MK D)) (hd : decode cc pc = .ok (.getfield 93, 3)) (kk : GW p l e R s m args below meth c nL A (MRp D o) (MK D) tv res σ (pc + 3) lv (.ref (o + mO 35) :: st)) : GW p l e R s m args below meth c nL A (MRp D o) (MK D) tv res σ pc lv (.ref o :: st) := m_get pc 35 hC (by decide) q1787 rfl hd kk
/-- many -/
theorem mg_36 (pc : Nat) (hC : GC p s m args meth c cc RX8 nL ret (MK D)) (hd : decode cc pc = .ok (.getfield 96, 3)) (kk : GW p l e R s m args below meth c nL A (MRp D o) (MK D) tv res σ (pc + 3) lv (.ref (o + mO 36) :: st)) : GW p l e R s m args below meth c nL A (MRp D o) (MK D) tv res σ pc lv (.ref o :: st) := m_get pc 36 hC (by decide) q1788 rfl hd kk
/-- names -/
theorem mg_37 (pc : Nat) (hC : GC p s m args meth c cc RX8 nL ret (MK D)) (hd : decode cc pc = .ok (.getfield 99, 3)) (kk : GW p l e R s m args below meth c nL A (MRp D o) (MK D) tv res σ (pc + 3) lv (.ref (o + mO 37) :: st)) : GW p l e R s m args below meth c nL A (MRp D o) (MK D) tv res σ pc lv (.ref o :: st) := m_get pc 37 hC (by decide) q1789 rfl hd kk
/-- sayings -/
theorem mg_38 (pc : Nat) (hC : GC p s m args meth c cc RX8 nL ret (MK D)) (hd : decode cc pc = .ok (.getfield 103, 3)) (kk : GW p l e R s m args below meth c nL A (MRp D o) (MK D) tv res σ (pc + 3) lv (.ref (o + mO 38) :: st)) : GW p l e R s m args below meth c nL A (MRp D o) (MK D) tv res σ pc lv (.ref o :: st) := m_get pc 38 hC (by decide) q1790 rfl hd kk
/-- verbs -/
theorem mg_39 (pc : Nat) (hC : GC p s m args meth c cc RX8 nL ret (MK D)) (hd : decode cc pc = .ok (.getfield 106, 3)) (kk : GW p l e R s m args below meth c nL A (MRp D o) (MK D) tv res σ (pc + 3) lv (.ref (o + mO 39) :: st)) : GW p l e R s m args below meth c nL A (MRp D o) (MK D) tv res σ pc lv (.ref o :: st) := m_get pc 39 hC (by decide) q1791 rfl hd kk
/-- lentTold -/
theorem mg_40 (pc : Nat) (hC : GC p s m args meth c cc RX8 nL ret (MK D)) (hd : decode cc pc = .ok (.getfield 326, 3)) (kk : GW p l e R s m args below meth c nL A (MRp D o) (MK D) tv res σ (pc + 3) lv (J (σ 40 0) :: st)) : GW p l e R s m args below meth c nL A (MRp D o) (MK D) tv res σ pc lv (.ref o :: st) := m_get pc 40 hC (by decide) q1792 rfl hd kk
theorem mp_40 (pc : Nat) (hC : GC p s m args meth c cc RX8 nL ret (MK D)) {x : Int} {σ' : MS} (hA : MIn A o) (hs' : σ' = up σ 40 0 x) (hd : decode cc pc = .ok (.putfield 326, 3)) (kk : GW p l e R s m args below meth c nL A (MRp D o) (MK D) tv res σ' (pc + 3) lv st) : GW p l e R s m args below meth c nL A (MRp D o) (MK D) tv res σ pc lv (J x :: .ref o :: st) := m_put pc 40 (ty := .int) hC hA (by decide) (by decide) q1792 rfl (by decide +kernel) rfl rfl rfl hs' hd kk
/-- codeFrom -/
theorem mg_41 (pc : Nat) (hC : GC p s m args meth c cc RX8 nL ret (MK D)) (hd : decode cc pc = .ok (.getfield 109, 3)) (kk : GW p l e R s m args below meth c nL A (MRp D o) (MK D) tv res σ (pc + 3) lv (.ref (o + mO 41) :: st)) : GW p l e R s m args below meth c nL A (MRp D o) (MK D) tv res σ pc lv (.ref o :: st) := m_get pc 41 hC (by decide) q1793 rfl hd kk
/-- codeEnd -/
theorem mg_42 (pc : Nat) (hC : GC p s m args meth c cc RX8 nL ret (MK D)) (hd : decode cc pc = .ok (.getfield 112, 3)) (kk : GW p l e R s m args below meth c nL A (MRp D o) (MK D) tv res σ (pc + 3) lv (.ref (o + mO 42) :: st)) : GW p l e R s m args below meth c nL A (MRp D o) (MK D) tv res σ pc lv (.ref o :: st) := m_get pc 42 hC (by decide) q1794 rfl hd kk
/-- codes -/
theorem mg_43 (pc : Nat) (hC : GC p s m args meth c cc RX8 nL ret (MK D)) (hd : decode cc pc = .ok (.getfield 115, 3)) (kk : GW p l e R s m args below meth c nL A (MRp D o) (MK D) tv res σ (pc + 3) lv (.ref (o + mO 43) :: st)) : GW p l e R s m args below meth c nL A (MRp D o) (MK D) tv res σ pc lv (.ref o :: st) := m_get pc 43 hC (by decide) q1795 rfl hd kk
/-- coded -/
theorem mg_44 (pc : Nat) (hC : GC p s m args meth c cc RX8 nL ret (MK D)) (hd : decode cc pc = .ok (.getfield 347, 3)) (kk : GW p l e R s m args below meth c nL A (MRp D o) (MK D) tv res σ (pc + 3) lv (J (σ 44 0) :: st)) : GW p l e R s m args below meth c nL A (MRp D o) (MK D) tv res σ pc lv (.ref o :: st) := m_get pc 44 hC (by decide) q1796 rfl hd kk
theorem mp_44 (pc : Nat) (hC : GC p s m args meth c cc RX8 nL ret (MK D)) {x : Int} {σ' : MS} (hA : MIn A o) (hs' : σ' = up σ 44 0 x) (hd : decode cc pc = .ok (.putfield 347, 3)) (kk : GW p l e R s m args below meth c nL A (MRp D o) (MK D) tv res σ' (pc + 3) lv st) : GW p l e R s m args below meth c nL A (MRp D o) (MK D) tv res σ pc lv (J x :: .ref o :: st) := m_put pc 44 (ty := .int) hC hA (by decide) (by decide) q1796 rfl (by decide +kernel) rfl rfl rfl hs' hd kk
/-- statements -/
theorem mg_45 (pc : Nat) (hC : GC p s m args meth c cc RX8 nL ret (MK D)) (hd : decode cc pc = .ok (.getfield 350, 3)) (kk : GW p l e R s m args below meth c nL A (MRp D o) (MK D) tv res σ (pc + 3) lv (J (σ 45 0) :: st)) : GW p l e R s m args below meth c nL A (MRp D o) (MK D) tv res σ pc lv (.ref o :: st) := m_get pc 45 hC (by decide) q1797 rfl hd kk
theorem mp_45 (pc : Nat) (hC : GC p s m args meth c cc RX8 nL ret (MK D)) {x : Int} {σ' : MS} (hA : MIn A o) (hs' : σ' = up σ 45 0 x) (hd : decode cc pc = .ok (.putfield 350, 3)) (kk : GW p l e R s m args below meth c nL A (MRp D o) (MK D) tv res σ' (pc + 3) lv st) : GW p l e R s m args below meth c nL A (MRp D o) (MK D) tv res σ pc lv (J x :: .ref o :: st) := m_put pc 45 (ty := .int) hC hA (by decide) (by decide) q1797 rfl (by decide +kernel) rfl rfl rfl hs' hd kk
/-- isCountry -/
theorem mg_46 (pc : Nat) (hC : GC p s m args meth c cc RX8 nL ret (MK D)) (hd : decode cc pc = .ok (.getfield 377, 3)) (kk : GW p l e R s m args below meth c nL A (MRp D o) (MK D) tv res σ (pc + 3) lv (J (σ 46 0) :: st)) : GW p l e R s m args below meth c nL A (MRp D o) (MK D) tv res σ pc lv (.ref o :: st) := m_get pc 46 hC (by decide) q1798 rfl hd kk
theorem mp_46 (pc : Nat) (hC : GC p s m args meth c cc RX8 nL ret (MK D)) {x : Int} {σ' : MS} (hA : MIn A o) (hb : bz x) (hs' : σ' = up σ 46 0 x) (hd : decode cc pc = .ok (.putfield 377, 3)) (kk : GW p l e R s m args below meth c nL A (MRp D o) (MK D) tv res σ' (pc + 3) lv st) : GW p l e R s m args below meth c nL A (MRp D o) (MK D) tv res σ pc lv (J x :: .ref o :: st) := m_put pc 46 (ty := .boolean) hC hA (by decide) (by decide) q1798 rfl (by decide +kernel) (bz_narrow hb) (bz_fits hb) rfl hs' hd kk
/-- textKind -/
theorem mg_47 (pc : Nat) (hC : GC p s m args meth c cc RX8 nL ret (MK D)) (hd : decode cc pc = .ok (.getfield 304, 3)) (kk : GW p l e R s m args below meth c nL A (MRp D o) (MK D) tv res σ (pc + 3) lv (J (σ 47 0) :: st)) : GW p l e R s m args below meth c nL A (MRp D o) (MK D) tv res σ pc lv (.ref o :: st) := m_get pc 47 hC (by decide) q1799 rfl hd kk
theorem mp_47 (pc : Nat) (hC : GC p s m args meth c cc RX8 nL ret (MK D)) {x : Int} {σ' : MS} (hA : MIn A o) (hs' : σ' = up σ 47 0 x) (hd : decode cc pc = .ok (.putfield 304, 3)) (kk : GW p l e R s m args below meth c nL A (MRp D o) (MK D) tv res σ' (pc + 3) lv st) : GW p l e R s m args below meth c nL A (MRp D o) (MK D) tv res σ pc lv (J x :: .ref o :: st) := m_put pc 47 (ty := .int) hC hA (by decide) (by decide) q1799 rfl (by decide +kernel) rfl rfl rfl hs' hd kk
/-- now -/
theorem mg_48 (pc : Nat) (hC : GC p s m args meth c cc RX8 nL ret (MK D)) (hd : decode cc pc = .ok (.getfield 118, 3)) (kk : GW p l e R s m args below meth c nL A (MRp D o) (MK D) tv res σ (pc + 3) lv (.ref (o + mO 48) :: st)) : GW p l e R s m args below meth c nL A (MRp D o) (MK D) tv res σ pc lv (.ref o :: st) := m_get pc 48 hC (by decide) q1800 rfl hd kk
/-- aside -/
theorem mg_49 (pc : Nat) (hC : GC p s m args meth c cc RX8 nL ret (MK D)) (hd : decode cc pc = .ok (.getfield 121, 3)) (kk : GW p l e R s m args below meth c nL A (MRp D o) (MK D) tv res σ (pc + 3) lv (.ref (o + mO 49) :: st)) : GW p l e R s m args below meth c nL A (MRp D o) (MK D) tv res σ pc lv (.ref o :: st) := m_get pc 49 hC (by decide) q1801 rfl hd kk
/-- askVerb -/
theorem mg_50 (pc : Nat) (hC : GC p s m args meth c cc RX8 nL ret (MK D)) (hd : decode cc pc = .ok (.getfield 396, 3)) (kk : GW p l e R s m args below meth c nL A (MRp D o) (MK D) tv res σ (pc + 3) lv (J (σ 50 0) :: st)) : GW p l e R s m args below meth c nL A (MRp D o) (MK D) tv res σ pc lv (.ref o :: st) := m_get pc 50 hC (by decide) q1802 rfl hd kk
theorem mp_50 (pc : Nat) (hC : GC p s m args meth c cc RX8 nL ret (MK D)) {x : Int} {σ' : MS} (hA : MIn A o) (hs' : σ' = up σ 50 0 x) (hd : decode cc pc = .ok (.putfield 396, 3)) (kk : GW p l e R s m args below meth c nL A (MRp D o) (MK D) tv res σ' (pc + 3) lv st) : GW p l e R s m args below meth c nL A (MRp D o) (MK D) tv res σ pc lv (J x :: .ref o :: st) := m_put pc 50 (ty := .int) hC hA (by decide) (by decide) q1802 rfl (by decide +kernel) rfl rfl rfl hs' hd kk
/-- wells -/
theorem mg_51 (pc : Nat) (hC : GC p s m args meth c cc RX8 nL ret (MK D)) (hd : decode cc pc = .ok (.getfield 124, 3)) (kk : GW p l e R s m args below meth c nL A (MRp D o) (MK D) tv res σ (pc + 3) lv (.ref (o + mO 51) :: st)) : GW p l e R s m args below meth c nL A (MRp D o) (MK D) tv res σ pc lv (.ref o :: st) := m_get pc 51 hC (by decide) q1803 rfl hd kk
/-- cans -/
theorem mg_52 (pc : Nat) (hC : GC p s m args meth c cc RX8 nL ret (MK D)) (hd : decode cc pc = .ok (.getfield 127, 3)) (kk : GW p l e R s m args below meth c nL A (MRp D o) (MK D) tv res σ (pc + 3) lv (.ref (o + mO 52) :: st)) : GW p l e R s m args below meth c nL A (MRp D o) (MK D) tv res σ pc lv (.ref o :: st) := m_get pc 52 hC (by decide) q1804 rfl hd kk
/-- row -/
theorem mg_53 (pc : Nat) (hC : GC p s m args meth c cc RX8 nL ret (MK D)) (hd : decode cc pc = .ok (.getfield 131, 3)) (kk : GW p l e R s m args below meth c nL A (MRp D o) (MK D) tv res σ (pc + 3) lv (.ref (o + mO 53) :: st)) : GW p l e R s m args below meth c nL A (MRp D o) (MK D) tv res σ pc lv (.ref o :: st) := m_get pc 53 hC (by decide) q1805 rfl hd kk
/-- giving -/
theorem mg_54 (pc : Nat) (hC : GC p s m args meth c cc RX8 nL ret (MK D)) (hd : decode cc pc = .ok (.getfield 134, 3)) (kk : GW p l e R s m args below meth c nL A (MRp D o) (MK D) tv res σ (pc + 3) lv (.ref (o + mO 54) :: st)) : GW p l e R s m args below meth c nL A (MRp D o) (MK D) tv res σ pc lv (.ref o :: st) := m_get pc 54 hC (by decide) q1806 rfl hd kk
/-- isGiving -/
theorem mg_55 (pc : Nat) (hC : GC p s m args meth c cc RX8 nL ret (MK D)) (hd : decode cc pc = .ok (.getfield 444, 3)) (kk : GW p l e R s m args below meth c nL A (MRp D o) (MK D) tv res σ (pc + 3) lv (J (σ 55 0) :: st)) : GW p l e R s m args below meth c nL A (MRp D o) (MK D) tv res σ pc lv (.ref o :: st) := m_get pc 55 hC (by decide) q1807 rfl hd kk
theorem mp_55 (pc : Nat) (hC : GC p s m args meth c cc RX8 nL ret (MK D)) {x : Int} {σ' : MS} (hA : MIn A o) (hb : bz x) (hs' : σ' = up σ 55 0 x) (hd : decode cc pc = .ok (.putfield 444, 3)) (kk : GW p l e R s m args below meth c nL A (MRp D o) (MK D) tv res σ' (pc + 3) lv st) : GW p l e R s m args below meth c nL A (MRp D o) (MK D) tv res σ pc lv (J x :: .ref o :: st) := m_put pc 55 (ty := .boolean) hC hA (by decide) (by decide) q1807 rfl (by decide +kernel) (bz_narrow hb) (bz_fits hb) rfl hs' hd kk
/-- givingWell -/
theorem mg_56 (pc : Nat) (hC : GC p s m args meth c cc RX8 nL ret (MK D)) (hd : decode cc pc = .ok (.getfield 447, 3)) (kk : GW p l e R s m args below meth c nL A (MRp D o) (MK D) tv res σ (pc + 3) lv (Lg (σ 56 0) :: st)) : GW p l e R s m args below meth c nL A (MRp D o) (MK D) tv res σ pc lv (.ref o :: st) := m_get pc 56 hC (by decide) q1808 rfl hd kk
theorem mp_56 (pc : Nat) (hC : GC p s m args meth c cc RX8 nL ret (MK D)) {x : Int} {σ' : MS} (hA : MIn A o) (hs' : σ' = up σ 56 0 x) (hd : decode cc pc = .ok (.putfield 447, 3)) (kk : GW p l e R s m args below meth c nL A (MRp D o) (MK D) tv res σ' (pc + 3) lv st) : GW p l e R s m args below meth c nL A (MRp D o) (MK D) tv res σ pc lv (Lg x :: .ref o :: st) := m_put pc 56 (ty := .long) hC hA (by decide) (by decide) q1808 rfl (by decide +kernel) rfl rfl rfl hs' hd kk
/-- order -/
theorem mg_57 (pc : Nat) (hC : GC p s m args meth c cc RX8 nL ret (MK D)) (hd : decode cc pc = .ok (.getfield 137, 3)) (kk : GW p l e R s m args below meth c nL A (MRp D o) (MK D) tv res σ (pc + 3) lv (.ref (o + mO 57) :: st)) : GW p l e R s m args below meth c nL A (MRp D o) (MK D) tv res σ pc lv (.ref o :: st) := m_get pc 57 hC (by decide) q1809 rfl hd kk
/-- round0 -/
theorem mg_58 (pc : Nat) (hC : GC p s m args meth c cc RX8 nL ret (MK D)) (hd : decode cc pc = .ok (.getfield 140, 3)) (kk : GW p l e R s m args below meth c nL A (MRp D o) (MK D) tv res σ (pc + 3) lv (.ref (o + mO 58) :: st)) : GW p l e R s m args below meth c nL A (MRp D o) (MK D) tv res σ pc lv (.ref o :: st) := m_get pc 58 hC (by decide) q1810 rfl hd kk
/-- roundLong -/
theorem mg_59 (pc : Nat) (hC : GC p s m args meth c cc RX8 nL ret (MK D)) (hd : decode cc pc = .ok (.getfield 464, 3)) (kk : GW p l e R s m args below meth c nL A (MRp D o) (MK D) tv res σ (pc + 3) lv (J (σ 59 0) :: st)) : GW p l e R s m args below meth c nL A (MRp D o) (MK D) tv res σ pc lv (.ref o :: st) := m_get pc 59 hC (by decide) q1811 rfl hd kk
theorem mp_59 (pc : Nat) (hC : GC p s m args meth c cc RX8 nL ret (MK D)) {x : Int} {σ' : MS} (hA : MIn A o) (hs' : σ' = up σ 59 0 x) (hd : decode cc pc = .ok (.putfield 464, 3)) (kk : GW p l e R s m args below meth c nL A (MRp D o) (MK D) tv res σ' (pc + 3) lv st) : GW p l e R s m args below meth c nL A (MRp D o) (MK D) tv res σ pc lv (J x :: .ref o :: st) := m_put pc 59 (ty := .int) hC hA (by decide) (by decide) q1811 rfl (by decide +kernel) rfl rfl rfl hs' hd kk
/-- isThought -/
theorem mg_60 (pc : Nat) (hC : GC p s m args meth c cc RX8 nL ret (MK D)) (hd : decode cc pc = .ok (.getfield 473, 3)) (kk : GW p l e R s m args below meth c nL A (MRp D o) (MK D) tv res σ (pc + 3) lv (J (σ 60 0) :: st)) : GW p l e R s m args below meth c nL A (MRp D o) (MK D) tv res σ pc lv (.ref o :: st) := m_get pc 60 hC (by decide) q1812 rfl hd kk
theorem mp_60 (pc : Nat) (hC : GC p s m args meth c cc RX8 nL ret (MK D)) {x : Int} {σ' : MS} (hA : MIn A o) (hb : bz x) (hs' : σ' = up σ 60 0 x) (hd : decode cc pc = .ok (.putfield 473, 3)) (kk : GW p l e R s m args below meth c nL A (MRp D o) (MK D) tv res σ' (pc + 3) lv st) : GW p l e R s m args below meth c nL A (MRp D o) (MK D) tv res σ pc lv (J x :: .ref o :: st) := m_put pc 60 (ty := .boolean) hC hA (by decide) (by decide) q1812 rfl (by decide +kernel) (bz_narrow hb) (bz_fits hb) rfl hs' hd kk
/-- givenMany -/
theorem mg_61 (pc : Nat) (hC : GC p s m args meth c cc RX8 nL ret (MK D)) (hd : decode cc pc = .ok (.getfield 479, 3)) (kk : GW p l e R s m args below meth c nL A (MRp D o) (MK D) tv res σ (pc + 3) lv (J (σ 61 0) :: st)) : GW p l e R s m args below meth c nL A (MRp D o) (MK D) tv res σ pc lv (.ref o :: st) := m_get pc 61 hC (by decide) q1813 rfl hd kk
theorem mp_61 (pc : Nat) (hC : GC p s m args meth c cc RX8 nL ret (MK D)) {x : Int} {σ' : MS} (hA : MIn A o) (hs' : σ' = up σ 61 0 x) (hd : decode cc pc = .ok (.putfield 479, 3)) (kk : GW p l e R s m args below meth c nL A (MRp D o) (MK D) tv res σ' (pc + 3) lv st) : GW p l e R s m args below meth c nL A (MRp D o) (MK D) tv res σ pc lv (J x :: .ref o :: st) := m_put pc 61 (ty := .int) hC hA (by decide) (by decide) q1813 rfl (by decide +kernel) rfl rfl rfl hs' hd kk
/-- gave -/
theorem mg_62 (pc : Nat) (hC : GC p s m args meth c cc RX8 nL ret (MK D)) (hd : decode cc pc = .ok (.getfield 143, 3)) (kk : GW p l e R s m args below meth c nL A (MRp D o) (MK D) tv res σ (pc + 3) lv (.ref (o + mO 62) :: st)) : GW p l e R s m args below meth c nL A (MRp D o) (MK D) tv res σ pc lv (.ref o :: st) := m_get pc 62 hC (by decide) q1814 rfl hd kk
/-- mores -/
theorem mg_63 (pc : Nat) (hC : GC p s m args meth c cc RX8 nL ret (MK D)) (hd : decode cc pc = .ok (.getfield 146, 3)) (kk : GW p l e R s m args below meth c nL A (MRp D o) (MK D) tv res σ (pc + 3) lv (.ref (o + mO 63) :: st)) : GW p l e R s m args below meth c nL A (MRp D o) (MK D) tv res σ pc lv (.ref o :: st) := m_get pc 63 hC (by decide) q1815 rfl hd kk
/-- rowMany -/
theorem mg_64 (pc : Nat) (hC : GC p s m args meth c cc RX8 nL ret (MK D)) (hd : decode cc pc = .ok (.getfield 384, 3)) (kk : GW p l e R s m args below meth c nL A (MRp D o) (MK D) tv res σ (pc + 3) lv (J (σ 64 0) :: st)) : GW p l e R s m args below meth c nL A (MRp D o) (MK D) tv res σ pc lv (.ref o :: st) := m_get pc 64 hC (by decide) q1816 rfl hd kk
theorem mp_64 (pc : Nat) (hC : GC p s m args meth c cc RX8 nL ret (MK D)) {x : Int} {σ' : MS} (hA : MIn A o) (hs' : σ' = up σ 64 0 x) (hd : decode cc pc = .ok (.putfield 384, 3)) (kk : GW p l e R s m args below meth c nL A (MRp D o) (MK D) tv res σ' (pc + 3) lv st) : GW p l e R s m args below meth c nL A (MRp D o) (MK D) tv res σ pc lv (J x :: .ref o :: st) := m_put pc 64 (ty := .int) hC hA (by decide) (by decide) q1816 rfl (by decide +kernel) rfl rfl rfl hs' hd kk
/-- rows -/
theorem mg_65 (pc : Nat) (hC : GC p s m args meth c cc RX8 nL ret (MK D)) (hd : decode cc pc = .ok (.getfield 149, 3)) (kk : GW p l e R s m args below meth c nL A (MRp D o) (MK D) tv res σ (pc + 3) lv (.ref (o + mO 65) :: st)) : GW p l e R s m args below meth c nL A (MRp D o) (MK D) tv res σ pc lv (.ref o :: st) := m_get pc 65 hC (by decide) q1817 rfl hd kk
/-- gifts -/
theorem mg_66 (pc : Nat) (hC : GC p s m args meth c cc RX8 nL ret (MK D)) (hd : decode cc pc = .ok (.getfield 152, 3)) (kk : GW p l e R s m args below meth c nL A (MRp D o) (MK D) tv res σ (pc + 3) lv (.ref (o + mO 66) :: st)) : GW p l e R s m args below meth c nL A (MRp D o) (MK D) tv res σ pc lv (.ref o :: st) := m_get pc 66 hC (by decide) q1818 rfl hd kk
/-- isFit -/
theorem mg_67 (pc : Nat) (hC : GC p s m args meth c cc RX8 nL ret (MK D)) (hd : decode cc pc = .ok (.getfield 155, 3)) (kk : GW p l e R s m args below meth c nL A (MRp D o) (MK D) tv res σ (pc + 3) lv (.ref (o + mO 67) :: st)) : GW p l e R s m args below meth c nL A (MRp D o) (MK D) tv res σ pc lv (.ref o :: st) := m_get pc 67 hC (by decide) q1819 rfl hd kk
/-- fitMany -/
theorem mg_68 (pc : Nat) (hC : GC p s m args meth c cc RX8 nL ret (MK D)) (hd : decode cc pc = .ok (.getfield 559, 3)) (kk : GW p l e R s m args below meth c nL A (MRp D o) (MK D) tv res σ (pc + 3) lv (J (σ 68 0) :: st)) : GW p l e R s m args below meth c nL A (MRp D o) (MK D) tv res σ pc lv (.ref o :: st) := m_get pc 68 hC (by decide) q1820 rfl hd kk
theorem mp_68 (pc : Nat) (hC : GC p s m args meth c cc RX8 nL ret (MK D)) {x : Int} {σ' : MS} (hA : MIn A o) (hs' : σ' = up σ 68 0 x) (hd : decode cc pc = .ok (.putfield 559, 3)) (kk : GW p l e R s m args below meth c nL A (MRp D o) (MK D) tv res σ' (pc + 3) lv st) : GW p l e R s m args below meth c nL A (MRp D o) (MK D) tv res σ pc lv (J x :: .ref o :: st) := m_put pc 68 (ty := .int) hC hA (by decide) (by decide) q1820 rfl (by decide +kernel) rfl rfl rfl hs' hd kk
/-- kept0 -/
theorem mg_69 (pc : Nat) (hC : GC p s m args meth c cc RX8 nL ret (MK D)) (hd : decode cc pc = .ok (.getfield 158, 3)) (kk : GW p l e R s m args below meth c nL A (MRp D o) (MK D) tv res σ (pc + 3) lv (.ref (o + mO 69) :: st)) : GW p l e R s m args below meth c nL A (MRp D o) (MK D) tv res σ pc lv (.ref o :: st) := m_get pc 69 hC (by decide) q1821 rfl hd kk
/-- undoable -/
theorem mg_70 (pc : Nat) (hC : GC p s m args meth c cc RX8 nL ret (MK D)) (hd : decode cc pc = .ok (.getfield 381, 3)) (kk : GW p l e R s m args below meth c nL A (MRp D o) (MK D) tv res σ (pc + 3) lv (J (σ 70 0) :: st)) : GW p l e R s m args below meth c nL A (MRp D o) (MK D) tv res σ pc lv (.ref o :: st) := m_get pc 70 hC (by decide) q1822 rfl hd kk
theorem mp_70 (pc : Nat) (hC : GC p s m args meth c cc RX8 nL ret (MK D)) {x : Int} {σ' : MS} (hA : MIn A o) (hs' : σ' = up σ 70 0 x) (hd : decode cc pc = .ok (.putfield 381, 3)) (kk : GW p l e R s m args below meth c nL A (MRp D o) (MK D) tv res σ' (pc + 3) lv st) : GW p l e R s m args below meth c nL A (MRp D o) (MK D) tv res σ pc lv (J x :: .ref o :: st) := m_put pc 70 (ty := .int) hC hA (by decide) (by decide) q1822 rfl (by decide +kernel) rfl rfl rfl hs' hd kk
/-- newest -/
theorem mg_71 (pc : Nat) (hC : GC p s m args meth c cc RX8 nL ret (MK D)) (hd : decode cc pc = .ok (.getfield 571, 3)) (kk : GW p l e R s m args below meth c nL A (MRp D o) (MK D) tv res σ (pc + 3) lv (J (σ 71 0) :: st)) : GW p l e R s m args below meth c nL A (MRp D o) (MK D) tv res σ pc lv (.ref o :: st) := m_get pc 71 hC (by decide) q1823 rfl hd kk
theorem mp_71 (pc : Nat) (hC : GC p s m args meth c cc RX8 nL ret (MK D)) {x : Int} {σ' : MS} (hA : MIn A o) (hs' : σ' = up σ 71 0 x) (hd : decode cc pc = .ok (.putfield 571, 3)) (kk : GW p l e R s m args below meth c nL A (MRp D o) (MK D) tv res σ' (pc + 3) lv st) : GW p l e R s m args below meth c nL A (MRp D o) (MK D) tv res σ pc lv (J x :: .ref o :: st) := m_put pc 71 (ty := .int) hC hA (by decide) (by decide) q1823 rfl (by decide +kernel) rfl rfl rfl hs' hd kk
/-- seeded -/
theorem mg_72 (pc : Nat) (hC : GC p s m args meth c cc RX8 nL ret (MK D)) (hd : decode cc pc = .ok (.getfield 161, 3)) (kk : GW p l e R s m args below meth c nL A (MRp D o) (MK D) tv res σ (pc + 3) lv (Lg (σ 72 0) :: st)) : GW p l e R s m args below meth c nL A (MRp D o) (MK D) tv res σ pc lv (.ref o :: st) := m_get pc 72 hC (by decide) q1824 rfl hd kk
theorem mp_72 (pc : Nat) (hC : GC p s m args meth c cc RX8 nL ret (MK D)) {x : Int} {σ' : MS} (hA : MIn A o) (hs' : σ' = up σ 72 0 x) (hd : decode cc pc = .ok (.putfield 161, 3)) (kk : GW p l e R s m args below meth c nL A (MRp D o) (MK D) tv res σ' (pc + 3) lv st) : GW p l e R s m args below meth c nL A (MRp D o) (MK D) tv res σ pc lv (Lg x :: .ref o :: st) := m_put pc 72 (ty := .long) hC hA (by decide) (by decide) q1824 rfl (by decide +kernel) rfl rfl rfl hs' hd kk
/-- firstAsked -/
theorem mg_73 (pc : Nat) (hC : GC p s m args meth c cc RX8 nL ret (MK D)) (hd : decode cc pc = .ok (.getfield 165, 3)) (kk : GW p l e R s m args below meth c nL A (MRp D o) (MK D) tv res σ (pc + 3) lv (.ref (o + mO 73) :: st)) : GW p l e R s m args below meth c nL A (MRp D o) (MK D) tv res σ pc lv (.ref o :: st) := m_get pc 73 hC (by decide) q1825 rfl hd kk
/-- lastAsked -/
theorem mg_74 (pc : Nat) (hC : GC p s m args meth c cc RX8 nL ret (MK D)) (hd : decode cc pc = .ok (.getfield 168, 3)) (kk : GW p l e R s m args below meth c nL A (MRp D o) (MK D) tv res σ (pc + 3) lv (.ref (o + mO 74) :: st)) : GW p l e R s m args below meth c nL A (MRp D o) (MK D) tv res σ pc lv (.ref o :: st) := m_get pc 74 hC (by decide) q1826 rfl hd kk
/-- oftenAsked -/
theorem mg_75 (pc : Nat) (hC : GC p s m args meth c cc RX8 nL ret (MK D)) (hd : decode cc pc = .ok (.getfield 171, 3)) (kk : GW p l e R s m args below meth c nL A (MRp D o) (MK D) tv res σ (pc + 3) lv (.ref (o + mO 75) :: st)) : GW p l e R s m args below meth c nL A (MRp D o) (MK D) tv res σ pc lv (.ref o :: st) := m_get pc 75 hC (by decide) q1827 rfl hd kk
/-- totalAsked -/
theorem mg_76 (pc : Nat) (hC : GC p s m args meth c cc RX8 nL ret (MK D)) (hd : decode cc pc = .ok (.getfield 174, 3)) (kk : GW p l e R s m args below meth c nL A (MRp D o) (MK D) tv res σ (pc + 3) lv (.ref (o + mO 76) :: st)) : GW p l e R s m args below meth c nL A (MRp D o) (MK D) tv res σ pc lv (.ref o :: st) := m_get pc 76 hC (by decide) q1828 rfl hd kk
/-- mostAsked -/
theorem mg_77 (pc : Nat) (hC : GC p s m args meth c cc RX8 nL ret (MK D)) (hd : decode cc pc = .ok (.getfield 177, 3)) (kk : GW p l e R s m args below meth c nL A (MRp D o) (MK D) tv res σ (pc + 3) lv (.ref (o + mO 77) :: st)) : GW p l e R s m args below meth c nL A (MRp D o) (MK D) tv res σ pc lv (.ref o :: st) := m_get pc 77 hC (by decide) q1829 rfl hd kk
/-- leastAsked -/
theorem mg_78 (pc : Nat) (hC : GC p s m args meth c cc RX8 nL ret (MK D)) (hd : decode cc pc = .ok (.getfield 180, 3)) (kk : GW p l e R s m args below meth c nL A (MRp D o) (MK D) tv res σ (pc + 3) lv (.ref (o + mO 78) :: st)) : GW p l e R s m args below meth c nL A (MRp D o) (MK D) tv res σ pc lv (.ref o :: st) := m_get pc 78 hC (by decide) q1830 rfl hd kk
/-- notAsked -/
theorem mg_79 (pc : Nat) (hC : GC p s m args meth c cc RX8 nL ret (MK D)) (hd : decode cc pc = .ok (.getfield 183, 3)) (kk : GW p l e R s m args below meth c nL A (MRp D o) (MK D) tv res σ (pc + 3) lv (.ref (o + mO 79) :: st)) : GW p l e R s m args below meth c nL A (MRp D o) (MK D) tv res σ pc lv (.ref o :: st) := m_get pc 79 hC (by decide) q1831 rfl hd kk
/-- andAsked -/
theorem mg_80 (pc : Nat) (hC : GC p s m args meth c cc RX8 nL ret (MK D)) (hd : decode cc pc = .ok (.getfield 186, 3)) (kk : GW p l e R s m args below meth c nL A (MRp D o) (MK D) tv res σ (pc + 3) lv (.ref (o + mO 80) :: st)) : GW p l e R s m args below meth c nL A (MRp D o) (MK D) tv res σ pc lv (.ref o :: st) := m_get pc 80 hC (by decide) q1832 rfl hd kk
/-- orAsked -/
theorem mg_81 (pc : Nat) (hC : GC p s m args meth c cc RX8 nL ret (MK D)) (hd : decode cc pc = .ok (.getfield 189, 3)) (kk : GW p l e R s m args below meth c nL A (MRp D o) (MK D) tv res σ (pc + 3) lv (.ref (o + mO 81) :: st)) : GW p l e R s m args below meth c nL A (MRp D o) (MK D) tv res σ pc lv (.ref o :: st) := m_get pc 81 hC (by decide) q1833 rfl hd kk
/-- allAsked -/
theorem mg_82 (pc : Nat) (hC : GC p s m args meth c cc RX8 nL ret (MK D)) (hd : decode cc pc = .ok (.getfield 192, 3)) (kk : GW p l e R s m args below meth c nL A (MRp D o) (MK D) tv res σ (pc + 3) lv (.ref (o + mO 82) :: st)) : GW p l e R s m args below meth c nL A (MRp D o) (MK D) tv res σ pc lv (.ref o :: st) := m_get pc 82 hC (by decide) q1834 rfl hd kk
/-- minAsked -/
theorem mg_83 (pc : Nat) (hC : GC p s m args meth c cc RX8 nL ret (MK D)) (hd : decode cc pc = .ok (.getfield 195, 3)) (kk : GW p l e R s m args below meth c nL A (MRp D o) (MK D) tv res σ (pc + 3) lv (.ref (o + mO 83) :: st)) : GW p l e R s m args below meth c nL A (MRp D o) (MK D) tv res σ pc lv (.ref o :: st) := m_get pc 83 hC (by decide) q1835 rfl hd kk
/-- maxAsked -/
theorem mg_84 (pc : Nat) (hC : GC p s m args meth c cc RX8 nL ret (MK D)) (hd : decode cc pc = .ok (.getfield 198, 3)) (kk : GW p l e R s m args below meth c nL A (MRp D o) (MK D) tv res σ (pc + 3) lv (.ref (o + mO 84) :: st)) : GW p l e R s m args below meth c nL A (MRp D o) (MK D) tv res σ pc lv (.ref o :: st) := m_get pc 84 hC (by decide) q1836 rfl hd kk
/-- toneAsked -/
theorem mg_85 (pc : Nat) (hC : GC p s m args meth c cc RX8 nL ret (MK D)) (hd : decode cc pc = .ok (.getfield 201, 3)) (kk : GW p l e R s m args below meth c nL A (MRp D o) (MK D) tv res σ (pc + 3) lv (.ref (o + mO 85) :: st)) : GW p l e R s m args below meth c nL A (MRp D o) (MK D) tv res σ pc lv (.ref o :: st) := m_get pc 85 hC (by decide) q1837 rfl hd kk
/-- kindAsked -/
theorem mg_86 (pc : Nat) (hC : GC p s m args meth c cc RX8 nL ret (MK D)) (hd : decode cc pc = .ok (.getfield 204, 3)) (kk : GW p l e R s m args below meth c nL A (MRp D o) (MK D) tv res σ (pc + 3) lv (.ref (o + mO 86) :: st)) : GW p l e R s m args below meth c nL A (MRp D o) (MK D) tv res σ pc lv (.ref o :: st) := m_get pc 86 hC (by decide) q1838 rfl hd kk
/-- mildAsked -/
theorem mg_87 (pc : Nat) (hC : GC p s m args meth c cc RX8 nL ret (MK D)) (hd : decode cc pc = .ok (.getfield 207, 3)) (kk : GW p l e R s m args below meth c nL A (MRp D o) (MK D) tv res σ (pc + 3) lv (.ref (o + mO 87) :: st)) : GW p l e R s m args below meth c nL A (MRp D o) (MK D) tv res σ pc lv (.ref o :: st) := m_get pc 87 hC (by decide) q1839 rfl hd kk
/-- givenAsked -/
theorem mg_88 (pc : Nat) (hC : GC p s m args meth c cc RX8 nL ret (MK D)) (hd : decode cc pc = .ok (.getfield 210, 3)) (kk : GW p l e R s m args below meth c nL A (MRp D o) (MK D) tv res σ (pc + 3) lv (.ref (o + mO 88) :: st)) : GW p l e R s m args below meth c nL A (MRp D o) (MK D) tv res σ pc lv (.ref o :: st) := m_get pc 88 hC (by decide) q1840 rfl hd kk
/-- dayAsked -/
theorem mg_89 (pc : Nat) (hC : GC p s m args meth c cc RX8 nL ret (MK D)) (hd : decode cc pc = .ok (.getfield 213, 3)) (kk : GW p l e R s m args below meth c nL A (MRp D o) (MK D) tv res σ (pc + 3) lv (.ref (o + mO 89) :: st)) : GW p l e R s m args below meth c nL A (MRp D o) (MK D) tv res σ pc lv (.ref o :: st) := m_get pc 89 hC (by decide) q1841 rfl hd kk
/-- numberAsked -/
theorem mg_90 (pc : Nat) (hC : GC p s m args meth c cc RX8 nL ret (MK D)) (hd : decode cc pc = .ok (.getfield 216, 3)) (kk : GW p l e R s m args below meth c nL A (MRp D o) (MK D) tv res σ (pc + 3) lv (.ref (o + mO 90) :: st)) : GW p l e R s m args below meth c nL A (MRp D o) (MK D) tv res σ pc lv (.ref o :: st) := m_get pc 90 hC (by decide) q1842 rfl hd kk
/-- columnAsked -/
theorem mg_91 (pc : Nat) (hC : GC p s m args meth c cc RX8 nL ret (MK D)) (hd : decode cc pc = .ok (.getfield 219, 3)) (kk : GW p l e R s m args below meth c nL A (MRp D o) (MK D) tv res σ (pc + 3) lv (.ref (o + mO 91) :: st)) : GW p l e R s m args below meth c nL A (MRp D o) (MK D) tv res σ pc lv (.ref o :: st) := m_get pc 91 hC (by decide) q1843 rfl hd kk
/-- rowAsked -/
theorem mg_92 (pc : Nat) (hC : GC p s m args meth c cc RX8 nL ret (MK D)) (hd : decode cc pc = .ok (.getfield 222, 3)) (kk : GW p l e R s m args below meth c nL A (MRp D o) (MK D) tv res σ (pc + 3) lv (.ref (o + mO 92) :: st)) : GW p l e R s m args below meth c nL A (MRp D o) (MK D) tv res σ pc lv (.ref o :: st) := m_get pc 92 hC (by decide) q1844 rfl hd kk
/-- getsAsked -/
theorem mg_93 (pc : Nat) (hC : GC p s m args meth c cc RX8 nL ret (MK D)) (hd : decode cc pc = .ok (.getfield 225, 3)) (kk : GW p l e R s m args below meth c nL A (MRp D o) (MK D) tv res σ (pc + 3) lv (.ref (o + mO 93) :: st)) : GW p l e R s m args below meth c nL A (MRp D o) (MK D) tv res σ pc lv (.ref o :: st) := m_get pc 93 hC (by decide) q1845 rfl hd kk
/-- givenofAsked -/
theorem mg_94 (pc : Nat) (hC : GC p s m args meth c cc RX8 nL ret (MK D)) (hd : decode cc pc = .ok (.getfield 228, 3)) (kk : GW p l e R s m args below meth c nL A (MRp D o) (MK D) tv res σ (pc + 3) lv (.ref (o + mO 94) :: st)) : GW p l e R s m args below meth c nL A (MRp D o) (MK D) tv res σ pc lv (.ref o :: st) := m_get pc 94 hC (by decide) q1846 rfl hd kk
/-- wellAsked -/
theorem mg_95 (pc : Nat) (hC : GC p s m args meth c cc RX8 nL ret (MK D)) (hd : decode cc pc = .ok (.getfield 231, 3)) (kk : GW p l e R s m args below meth c nL A (MRp D o) (MK D) tv res σ (pc + 3) lv (.ref (o + mO 95) :: st)) : GW p l e R s m args below meth c nL A (MRp D o) (MK D) tv res σ pc lv (.ref o :: st) := m_get pc 95 hC (by decide) q1847 rfl hd kk
/-- qCodes -/
theorem mg_96 (pc : Nat) (hC : GC p s m args meth c cc RX8 nL ret (MK D)) (hd : decode cc pc = .ok (.getfield 234, 3)) (kk : GW p l e R s m args below meth c nL A (MRp D o) (MK D) tv res σ (pc + 3) lv (.ref (o + mO 96) :: st)) : GW p l e R s m args below meth c nL A (MRp D o) (MK D) tv res σ pc lv (.ref o :: st) := m_get pc 96 hC (by decide) q1848 rfl hd kk
/-- qCoded -/
theorem mg_97 (pc : Nat) (hC : GC p s m args meth c cc RX8 nL ret (MK D)) (hd : decode cc pc = .ok (.getfield 329, 3)) (kk : GW p l e R s m args below meth c nL A (MRp D o) (MK D) tv res σ (pc + 3) lv (J (σ 97 0) :: st)) : GW p l e R s m args below meth c nL A (MRp D o) (MK D) tv res σ pc lv (.ref o :: st) := m_get pc 97 hC (by decide) q1849 rfl hd kk
theorem mp_97 (pc : Nat) (hC : GC p s m args meth c cc RX8 nL ret (MK D)) {x : Int} {σ' : MS} (hA : MIn A o) (hs' : σ' = up σ 97 0 x) (hd : decode cc pc = .ok (.putfield 329, 3)) (kk : GW p l e R s m args below meth c nL A (MRp D o) (MK D) tv res σ' (pc + 3) lv st) : GW p l e R s m args below meth c nL A (MRp D o) (MK D) tv res σ pc lv (J x :: .ref o :: st) := m_put pc 97 (ty := .int) hC hA (by decide) (by decide) q1849 rfl (by decide +kernel) rfl rfl rfl hs' hd kk
/-- qWait -/
theorem mg_98 (pc : Nat) (hC : GC p s m args meth c cc RX8 nL ret (MK D)) (hd : decode cc pc = .ok (.getfield 237, 3)) (kk : GW p l e R s m args below meth c nL A (MRp D o) (MK D) tv res σ (pc + 3) lv (.ref (o + mO 98) :: st)) : GW p l e R s m args below meth c nL A (MRp D o) (MK D) tv res σ pc lv (.ref o :: st) := m_get pc 98 hC (by decide) q1850 rfl hd kk
/-- qWaits -/
theorem mg_99 (pc : Nat) (hC : GC p s m args meth c cc RX8 nL ret (MK D)) (hd : decode cc pc = .ok (.getfield 332, 3)) (kk : GW p l e R s m args below meth c nL A (MRp D o) (MK D) tv res σ (pc + 3) lv (J (σ 99 0) :: st)) : GW p l e R s m args below meth c nL A (MRp D o) (MK D) tv res σ pc lv (.ref o :: st) := m_get pc 99 hC (by decide) q1851 rfl hd kk
theorem mp_99 (pc : Nat) (hC : GC p s m args meth c cc RX8 nL ret (MK D)) {x : Int} {σ' : MS} (hA : MIn A o) (hs' : σ' = up σ 99 0 x) (hd : decode cc pc = .ok (.putfield 332, 3)) (kk : GW p l e R s m args below meth c nL A (MRp D o) (MK D) tv res σ' (pc + 3) lv st) : GW p l e R s m args below meth c nL A (MRp D o) (MK D) tv res σ pc lv (J x :: .ref o :: st) := m_put pc 99 (ty := .int) hC hA (by decide) (by decide) q1851 rfl (by decide +kernel) rfl rfl rfl hs' hd kk
/-- qOpened -/
theorem mg_100 (pc : Nat) (hC : GC p s m args meth c cc RX8 nL ret (MK D)) (hd : decode cc pc = .ok (.getfield 335, 3)) (kk : GW p l e R s m args below meth c nL A (MRp D o) (MK D) tv res σ (pc + 3) lv (J (σ 100 0) :: st)) : GW p l e R s m args below meth c nL A (MRp D o) (MK D) tv res σ pc lv (.ref o :: st) := m_get pc 100 hC (by decide) q1852 rfl hd kk
theorem mp_100 (pc : Nat) (hC : GC p s m args meth c cc RX8 nL ret (MK D)) {x : Int} {σ' : MS} (hA : MIn A o) (hs' : σ' = up σ 100 0 x) (hd : decode cc pc = .ok (.putfield 335, 3)) (kk : GW p l e R s m args below meth c nL A (MRp D o) (MK D) tv res σ' (pc + 3) lv st) : GW p l e R s m args below meth c nL A (MRp D o) (MK D) tv res σ pc lv (J x :: .ref o :: st) := m_put pc 100 (ty := .int) hC hA (by decide) (by decide) q1852 rfl (by decide +kernel) rfl rfl rfl hs' hd kk
/-- qBase -/
theorem mg_101 (pc : Nat) (hC : GC p s m args meth c cc RX8 nL ret (MK D)) (hd : decode cc pc = .ok (.getfield 338, 3)) (kk : GW p l e R s m args below meth c nL A (MRp D o) (MK D) tv res σ (pc + 3) lv (J (σ 101 0) :: st)) : GW p l e R s m args below meth c nL A (MRp D o) (MK D) tv res σ pc lv (.ref o :: st) := m_get pc 101 hC (by decide) q1853 rfl hd kk
theorem mp_101 (pc : Nat) (hC : GC p s m args meth c cc RX8 nL ret (MK D)) {x : Int} {σ' : MS} (hA : MIn A o) (hs' : σ' = up σ 101 0 x) (hd : decode cc pc = .ok (.putfield 338, 3)) (kk : GW p l e R s m args below meth c nL A (MRp D o) (MK D) tv res σ' (pc + 3) lv st) : GW p l e R s m args below meth c nL A (MRp D o) (MK D) tv res σ pc lv (J x :: .ref o :: st) := m_put pc 101 (ty := .int) hC hA (by decide) (by decide) q1853 rfl (by decide +kernel) rfl rfl rfl hs' hd kk
/-- qPile -/
theorem mg_102 (pc : Nat) (hC : GC p s m args meth c cc RX8 nL ret (MK D)) (hd : decode cc pc = .ok (.getfield 240, 3)) (kk : GW p l e R s m args below meth c nL A (MRp D o) (MK D) tv res σ (pc + 3) lv (.ref (o + mO 102) :: st)) : GW p l e R s m args below meth c nL A (MRp D o) (MK D) tv res σ pc lv (.ref o :: st) := m_get pc 102 hC (by decide) q1854 rfl hd kk
/-- qPiled -/
theorem mg_103 (pc : Nat) (hC : GC p s m args meth c cc RX8 nL ret (MK D)) (hd : decode cc pc = .ok (.getfield 399, 3)) (kk : GW p l e R s m args below meth c nL A (MRp D o) (MK D) tv res σ (pc + 3) lv (J (σ 103 0) :: st)) : GW p l e R s m args below meth c nL A (MRp D o) (MK D) tv res σ pc lv (.ref o :: st) := m_get pc 103 hC (by decide) q1855 rfl hd kk
theorem mp_103 (pc : Nat) (hC : GC p s m args meth c cc RX8 nL ret (MK D)) {x : Int} {σ' : MS} (hA : MIn A o) (hs' : σ' = up σ 103 0 x) (hd : decode cc pc = .ok (.putfield 399, 3)) (kk : GW p l e R s m args below meth c nL A (MRp D o) (MK D) tv res σ' (pc + 3) lv st) : GW p l e R s m args below meth c nL A (MRp D o) (MK D) tv res σ pc lv (J x :: .ref o :: st) := m_put pc 103 (ty := .int) hC hA (by decide) (by decide) q1855 rfl (by decide +kernel) rfl rfl rfl hs' hd kk
/-- qAnswer -/
theorem mg_104 (pc : Nat) (hC : GC p s m args meth c cc RX8 nL ret (MK D)) (hd : decode cc pc = .ok (.getfield 664, 3)) (kk : GW p l e R s m args below meth c nL A (MRp D o) (MK D) tv res σ (pc + 3) lv (Lg (σ 104 0) :: st)) : GW p l e R s m args below meth c nL A (MRp D o) (MK D) tv res σ pc lv (.ref o :: st) := m_get pc 104 hC (by decide) q1856 rfl hd kk
theorem mp_104 (pc : Nat) (hC : GC p s m args meth c cc RX8 nL ret (MK D)) {x : Int} {σ' : MS} (hA : MIn A o) (hs' : σ' = up σ 104 0 x) (hd : decode cc pc = .ok (.putfield 664, 3)) (kk : GW p l e R s m args below meth c nL A (MRp D o) (MK D) tv res σ' (pc + 3) lv st) : GW p l e R s m args below meth c nL A (MRp D o) (MK D) tv res σ pc lv (Lg x :: .ref o :: st) := m_put pc 104 (ty := .long) hC hA (by decide) (by decide) q1856 rfl (by decide +kernel) rfl rfl rfl hs' hd kk
/-- qIsNew -/
theorem mg_105 (pc : Nat) (hC : GC p s m args meth c cc RX8 nL ret (MK D)) (hd : decode cc pc = .ok (.getfield 667, 3)) (kk : GW p l e R s m args below meth c nL A (MRp D o) (MK D) tv res σ (pc + 3) lv (J (σ 105 0) :: st)) : GW p l e R s m args below meth c nL A (MRp D o) (MK D) tv res σ pc lv (.ref o :: st) := m_get pc 105 hC (by decide) q1857 rfl hd kk
theorem mp_105 (pc : Nat) (hC : GC p s m args meth c cc RX8 nL ret (MK D)) {x : Int} {σ' : MS} (hA : MIn A o) (hb : bz x) (hs' : σ' = up σ 105 0 x) (hd : decode cc pc = .ok (.putfield 667, 3)) (kk : GW p l e R s m args below meth c nL A (MRp D o) (MK D) tv res σ' (pc + 3) lv st) : GW p l e R s m args below meth c nL A (MRp D o) (MK D) tv res σ pc lv (J x :: .ref o :: st) := m_put pc 105 (ty := .boolean) hC hA (by decide) (by decide) q1857 rfl (by decide +kernel) (bz_narrow hb) (bz_fits hb) rfl hs' hd kk
/-- octet -/
theorem mg_106 (pc : Nat) (hC : GC p s m args meth c cc RX8 nL ret (MK D)) (hd : decode cc pc = .ok (.getfield 243, 3)) (kk : GW p l e R s m args below meth c nL A (MRp D o) (MK D) tv res σ (pc + 3) lv (.ref (o + mO 106) :: st)) : GW p l e R s m args below meth c nL A (MRp D o) (MK D) tv res σ pc lv (.ref o :: st) := m_get pc 106 hC (by decide) q1858 rfl hd kk
/-- octets -/
theorem mg_107 (pc : Nat) (hC : GC p s m args meth c cc RX8 nL ret (MK D)) (hd : decode cc pc = .ok (.getfield 681, 3)) (kk : GW p l e R s m args below meth c nL A (MRp D o) (MK D) tv res σ (pc + 3) lv (J (σ 107 0) :: st)) : GW p l e R s m args below meth c nL A (MRp D o) (MK D) tv res σ pc lv (.ref o :: st) := m_get pc 107 hC (by decide) q1859 rfl hd kk
theorem mp_107 (pc : Nat) (hC : GC p s m args meth c cc RX8 nL ret (MK D)) {x : Int} {σ' : MS} (hA : MIn A o) (hs' : σ' = up σ 107 0 x) (hd : decode cc pc = .ok (.putfield 681, 3)) (kk : GW p l e R s m args below meth c nL A (MRp D o) (MK D) tv res σ' (pc + 3) lv st) : GW p l e R s m args below meth c nL A (MRp D o) (MK D) tv res σ pc lv (J x :: .ref o :: st) := m_put pc 107 (ty := .int) hC hA (by decide) (by decide) q1859 rfl (by decide +kernel) rfl rfl rfl hs' hd kk
end Mrows
