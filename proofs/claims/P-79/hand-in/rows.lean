section
theorem pk_us {f : Nat → Int32} {k : Nat} {x : Int32} : upd f k x k = x := if_pos rfl
theorem pk_un {f : Nat → Int32} {k j : Nat} {x : Int32} (h : j ≠ k) : upd f k x j = f j := if_neg h
theorem pk_uLs {f : Nat → Int64} {k : Nat} {x : Int64} : vp_updL f k x k = x := if_pos rfl
theorem pk_uLn {f : Nat → Int64} {k j : Nat} {x : Int64} (h : j ≠ k) : vp_updL f k x j = f j := if_neg h
theorem pk_mul (a b : Nat) : nI a * nI b = nI (a * b) := (Int32.ofNat_mul a b).symm
theorem pk_ix (x : Int32) {n : Nat} (hn : n < 2 ^ 31) : x < 0 ∨ nI n ≤ x ∨ ∃ j : Nat, j < n ∧ x = nI j := by
  by_cases h : x < 0
  · exact Or.inl h
  · obtain ⟨j, hj, rfl⟩ := nI_of h
    by_cases h2 : j < n
    · exact Or.inr (Or.inr ⟨j, h2, rfl⟩)
    · exact Or.inr (Or.inl (nI_le (by omega) hj))
theorem pk_tn {n : Nat} (h : n < 2 ^ 32) : (nI n).toBitVec.toNat = n := Nat.mod_eq_of_lt h
theorem pk_and (x : Int32) {m : Int32} (k : Nat) (hm : m.toBitVec.toNat = 2 ^ k - 1) : x &&& m = nI (x.toBitVec.toNat % 2 ^ k) := by
  apply Int32.toBitVec_inj.mp
  apply BitVec.eq_of_toNat_eq
  rw [Int32.toBitVec_and, BitVec.toNat_and, hm, Nat.and_two_pow_sub_one_eq_mod]
  show _ = (BitVec.ofNat 32 _).toNat
  rw [BitVec.toNat_ofNat]
  exact (Nat.mod_eq_of_lt (Nat.lt_of_le_of_lt (Nat.mod_le _ _) x.toBitVec.isLt)).symm
theorem pk_charN {q : Nat} (hq : q < 65536) : narrow .char (.int (nI q)) = .int (nI q) ∧ fits .char (.int (nI q)) = true := by
  constructor
  · have e : (nI q).toUInt32.toUInt16.toUInt32.toInt32 = nI q := by
      apply Int32.toBitVec_inj.mp
      apply BitVec.eq_of_toNat_eq
      show (nI q).toUInt32.toUInt16.toUInt32.toNat = q % 2 ^ 32
      rw [UInt16.toNat_toUInt32, UInt32.toNat_toUInt16, show (nI q).toUInt32.toNat = q % 2 ^ 32 from rfl]
      omega
    exact congrArg Value.int e
  · have a : (0 : Int32) ≤ nI q := nI_pos' (by omega)
    have b : nI q ≤ 65535 := nI_le (b := 65535) (by omega) (by decide)
    show (decide ((0 : Int32) ≤ nI q) && decide (nI q ≤ 65535)) = true
    rw [decide_eq_true a, decide_eq_true b]
    rfl
theorem pk_char (x : Int32) : (x.toUInt32 % 65536).toInt32 = nI (x.toBitVec.toNat % 65536) := by
  apply Int32.toBitVec_inj.mp
  apply BitVec.eq_of_toNat_eq
  rw [pk_tn (by omega)]
  show (x.toUInt32 % 65536).toNat = _
  rw [UInt32.toNat_mod]
  rfl
theorem pk_nc (x : Int32) : narrow .char (.int (x.toUInt32 % 65536).toInt32) = .int (x.toUInt32 % 65536).toInt32 := by
  rw [pk_char]
  exact (pk_charN (Nat.mod_lt _ (by decide))).1
theorem pk_vb (z : Int32) : vp_nar .byte z.toInt8.toInt32 = z.toInt8.toInt32 := by rw [vp_nar_byte]; simp
theorem pk_vs (z : Int32) : vp_nar .short z.toInt16.toInt32 = z.toInt16.toInt32 := by rw [vp_nar_short]; simp
theorem pk_vc (z : Int32) : vp_nar .char (z.toUInt32 % 65536).toInt32 = (z.toUInt32 % 65536).toInt32 := Value.int.inj (pk_nc z)
theorem em_w (v : Int32) : ∃ w : Nat, w < 65536 ∧ (v.toUInt32 % 65536).toInt32 = nI w ∧ v &&& 65535 = nI w := by
  have hr := lw_u16_r v
  have h0 : (0 : Int32).toInt = 0 := by decide
  obtain ⟨w, h1, h2⟩ := nI_of (x := lw_u16 v) (by rw [Int32.lt_iff_toInt_lt]; omega)
  have h3 : (v.toUInt32 % 65536).toInt32 = nI w := h2
  rw [h2, nI_toInt h1] at hr
  exact ⟨w, by omega, h3, by rw [← lg_i2c_mask, ← lg_i2c_nf, h3]⟩
end
section
/-! counts in the pool -/
/-- how many of the first p entries of the pool belong to h -/
def nh_c (po : Nat → Int32) (h : Nat) : Nat → Nat
  | 0 => 0
  | p + 1 => nh_c po h p + (if po p = nI h then 1 else 0)
theorem nh_c_s {po : Nat → Int32} {h p : Nat} (e : po p = nI h) : nh_c po h (p + 1) = nh_c po h p + 1 := by
  show nh_c po h p + (if po p = nI h then 1 else 0) = _
  rw [if_pos e]
theorem nh_c_n {po : Nat → Int32} {h p : Nat} (e : ¬ po p = nI h) : nh_c po h (p + 1) = nh_c po h p := by
  show nh_c po h p + (if po p = nI h then 1 else 0) = _
  rw [if_neg e]; rfl
theorem nh_c_1 (po : Nat → Int32) (h p : Nat) : nh_c po h p ≤ nh_c po h (p + 1) := Nat.le_add_right _ _
theorem nh_c_le (po : Nat → Int32) (h : Nat) : ∀ p, nh_c po h p ≤ p := by
  intro p
  induction p with
  | zero => exact Nat.le_refl 0
  | succ p ih =>
    by_cases e : po p = nI h
    · rw [nh_c_s e]; omega
    · rw [nh_c_n e]; omega
theorem nh_c_mono (po : Nat → Int32) (h i : Nat) : ∀ j, i ≤ j → nh_c po h i ≤ nh_c po h j := by
  intro j
  induction j with
  | zero => intro hij; rw [Nat.le_zero.mp hij]; exact Nat.le_refl _
  | succ j ih =>
    intro hij
    by_cases e : i = j + 1
    · rw [e]; exact Nat.le_refl _
    · exact Nat.le_trans (ih (by omega)) (nh_c_1 po h j)
theorem nh_c_lt {po : Nat → Int32} {h j p : Nat} (hj : j < p) (e : po j = nI h) : nh_c po h j < nh_c po h p := by
  have a := nh_c_mono po h (j + 1) p hj
  rw [nh_c_s e] at a
  omega
theorem nh_c_at (po : Nat → Int32) (h k : Nat) : ∀ p, k < nh_c po h p → ∃ j, j < p ∧ po j = nI h ∧ nh_c po h j = k := by
  intro p
  induction p with
  | zero => intro hk; exact absurd hk (Nat.not_lt_zero _)
  | succ p ih =>
    intro hk
    by_cases hk' : k < nh_c po h p
    · obtain ⟨j, a, b, c⟩ := ih hk'
      exact ⟨j, by omega, b, c⟩
    · by_cases e : po p = nI h
      · rw [nh_c_s e] at hk
        exact ⟨p, by omega, e, by omega⟩
      · rw [nh_c_n e] at hk
        exact absurd hk hk'
theorem nh_c_upd (po : Nat → Int32) (x : Int32) (h p : Nat) : ∀ i, i ≤ p → nh_c (upd po p x) h i = nh_c po h i := by
  intro i
  induction i with
  | zero => intro _; rfl
  | succ i ih =>
    intro hi
    have u : upd po p x i = po i := pk_un (by omega)
    have a := ih (by omega)
    by_cases e : po i = nI h
    · rw [nh_c_s e, nh_c_s (u.trans e), a]
    · rw [nh_c_n e, nh_c_n (fun z => e (u.symm.trans z)), a]
/-- the sum of the counts of the first i classes -/
def nh_t (po : Nat → Int32) (p : Nat) : Nat → Nat
  | 0 => 0
  | i + 1 => nh_t po p i + nh_c po i p
theorem nh_eqI {a b : Nat} (ha : a < 5) (hb : b < 5) (h : nI a = nI b) : a = b := (nI_eq (by omega) (by omega)).mp h
theorem nh_t_s {po : Nat → Int32} {p h : Nat} (hh : h < 5) (e : po p = nI h) : ∀ i, i ≤ 5 → nh_t po (p + 1) i = nh_t po p i + (if h < i then 1 else 0) := by
  intro i
  induction i with
  | zero => intro _; rfl
  | succ i ih =>
    intro hi
    show nh_t po (p + 1) i + nh_c po i (p + 1) = nh_t po p i + nh_c po i p + _
    rw [ih (by omega)]
    by_cases g : h = i
    · subst g
      rw [nh_c_s e, if_neg (Nat.lt_irrefl h), if_pos (Nat.lt_succ_self h)]
      omega
    · have n : ¬ po p = nI i := fun z => g (nh_eqI hh (by omega) (e.symm.trans z))
      rw [nh_c_n n]
      by_cases l : h < i
      · rw [if_pos l, if_pos (by omega)]; omega
      · rw [if_neg l, if_neg (by omega)]; omega
theorem nh_t0 (po : Nat → Int32) : ∀ i, nh_t po 0 i = 0 := by
  intro i
  induction i with
  | zero => rfl
  | succ i ih => show nh_t po 0 i + 0 = 0; rw [ih]
theorem nh_t5 (po : Nat → Int32) : ∀ p, (∀ j, j < p → ∃ h, h < 5 ∧ po j = nI h) → nh_t po p 5 = p := by
  intro p
  induction p with
  | zero => intro _; exact nh_t0 po 5
  | succ p ih =>
    intro H
    obtain ⟨h, hh, e⟩ := H p (Nat.lt_succ_self p)
    rw [nh_t_s hh e 5 (Nat.le_refl 5), ih (fun j hj => H j (by omega)), if_pos hh]
/-! the component's scan -/
def nh_f (po pn : Nat → Int32) (h : Nat) (w : Int32) : Nat → Int32
  | 0 => 0
  | i + 1 => if po i = nI h ∧ pn i = w then 1 else nh_f po pn h w i
theorem nh_f_y {po pn : Nat → Int32} {h : Nat} {w : Int32} {i : Nat} (e : po i = nI h) (g : pn i = w) : nh_f po pn h w (i + 1) = 1 := if_pos ⟨e, g⟩
theorem nh_f_n {po pn : Nat → Int32} {h : Nat} {w : Int32} {i : Nat} (e : ¬ (po i = nI h ∧ pn i = w)) : nh_f po pn h w (i + 1) = nh_f po pn h w i := if_neg e
theorem nh_f_1 {po pn : Nat → Int32} {h : Nat} {w : Int32} : ∀ p, (∃ j, j < p ∧ po j = nI h ∧ pn j = w) → nh_f po pn h w p = 1 := by
  intro p
  induction p with
  | zero => intro ⟨j, hj, _⟩; exact absurd hj (Nat.not_lt_zero _)
  | succ p ih =>
    intro ⟨j, hj, a, b⟩
    by_cases g : po p = nI h ∧ pn p = w
    · exact nh_f_y g.1 g.2
    · rw [nh_f_n g]
      by_cases l : j = p
      · subst l; exact absurd ⟨a, b⟩ g
      · exact ih ⟨j, by omega, a, b⟩
theorem nh_f_0 {po pn : Nat → Int32} {h : Nat} {w : Int32} : ∀ p, ¬ (∃ j, j < p ∧ po j = nI h ∧ pn j = w) → nh_f po pn h w p = 0 := by
  intro p
  induction p with
  | zero => intro _; rfl
  | succ p ih =>
    intro H
    rw [nh_f_n (fun g => H ⟨p, Nat.lt_succ_self p, g.1, g.2⟩)]
    exact ih (fun ⟨j, hj, a, b⟩ => H ⟨j, by omega, a, b⟩)
/-! shorts -/
theorem nh_s16 (x : Int32) : (x &&& 65535).toInt16.toInt32 = x.toInt16.toInt32 := by
  have e : (x &&& 65535).toInt16 = x.toInt16 := by
    apply Int16.toBitVec_inj.mp
    apply BitVec.eq_of_toNat_eq
    show (BitVec.signExtend 16 (x &&& 65535).toBitVec).toNat = (BitVec.signExtend 16 x.toBitVec).toNat
    rw [BitVec.signExtend_eq_setWidth_of_le _ (by decide), BitVec.signExtend_eq_setWidth_of_le _ (by decide), BitVec.toNat_setWidth, BitVec.toNat_setWidth, Int32.toBitVec_and, BitVec.toNat_and]
    rw [show (65535 : Int32).toBitVec.toNat = 2 ^ 16 - 1 by decide, Nat.and_two_pow_sub_one_eq_mod, Nat.mod_mod]
  rw [e]
theorem nh_s16i {a b : Nat} (ha : a < 65536) (hb : b < 65536) (h : (nI a).toInt16.toInt32 = (nI b).toInt16.toInt32) : a = b := by
  have e : (nI a).toInt16 = (nI b).toInt16 := by
    have g := congrArg Int32.toInt16 h
    simpa using g
  have g : (BitVec.signExtend 16 (nI a).toBitVec).toNat = (BitVec.signExtend 16 (nI b).toBitVec).toNat := congrArg (fun z : Int16 => z.toBitVec.toNat) e
  rw [BitVec.signExtend_eq_setWidth_of_le _ (by decide), BitVec.signExtend_eq_setWidth_of_le _ (by decide), BitVec.toNat_setWidth, BitVec.toNat_setWidth, pk_tn (by omega), pk_tn (by omega)] at g
  omega
/-! the package's two halves -/
def nh_hi (x : Int64) : Int32 := (x >>> ((32 : Int32).toInt64 &&& 63)).toInt32
def nh_lo (x : Int64) : Int32 := x.toInt32
theorem nh_join (x : Int64) : ((nh_hi x).toInt64 <<< ((32 : Int32).toInt64 &&& 63)) ||| ((nh_lo x).toInt64 &&& 4294967295) = x := by
  apply Int64.toBitVec_inj.mp
  have s : (((32 : Int32).toInt64 &&& 63).toBitVec.smod 64).toNat = 32 := by decide
  have m : (4294967295 : Int64).toBitVec = BitVec.ofNat 64 (2 ^ 32 - 1) := by decide
  rw [Int64.toBitVec_or, Int64.toBitVec_and, m]
  show (BitVec.signExtend 64 (BitVec.signExtend 32 (x.toBitVec.sshiftRight (((32 : Int32).toInt64 &&& 63).toBitVec.smod 64).toNat)) <<< (((32 : Int32).toInt64 &&& 63).toBitVec.smod 64).toNat) ||| (BitVec.signExtend 64 (BitVec.signExtend 32 x.toBitVec) &&& BitVec.ofNat 64 (2 ^ 32 - 1)) = x.toBitVec
  rw [s, BitVec.signExtend_eq_setWidth_of_le (v := 32) (x.toBitVec.sshiftRight 32) (by decide), BitVec.signExtend_eq_setWidth_of_le (v := 32) x.toBitVec (by decide)]
  apply BitVec.eq_of_getLsbD_eq
  intro i hi
  rw [BitVec.getLsbD_or, BitVec.getLsbD_shiftLeft, BitVec.getLsbD_and, BitVec.getLsbD_signExtend, BitVec.getLsbD_signExtend, BitVec.getLsbD_setWidth, BitVec.getLsbD_setWidth, BitVec.getLsbD_sshiftRight, BitVec.getLsbD_ofNat, Nat.testBit_two_pow_sub_one]
  by_cases l : i < 32
  · simp [l, hi]
  · have a : i - 32 < 32 := by omega
    have b : i - 32 < 64 := by omega
    have c : 32 + (i - 32) = i := by omega
    have d : ¬ 64 ≤ i - 32 := by omega
    simp [l, hi, a, b, c, d]
theorem nh_inj {x y : Int64} (a : nh_hi x = nh_hi y) (b : nh_lo x = nh_lo y) : x = y := by
  rw [← nh_join x, a, b, nh_join]
end
section
/-! numbers of any sign -/
theorem nh_m1 : (-1 : Int32).toInt = -1 := by decide
theorem nh_m2 : (-2 : Int32).toInt = -2 := by decide
theorem nh_m5 : (-5 : Int32).toInt = -5 := by decide
theorem nh_p0 : (0 : Int32).toInt = 0 := by decide
theorem nh_nn {x : Int32} (h : ¬ x < 0) : ¬ x < -5 ∧ -2 < x ∧ ¬ x = -1 := by
  have a := nh_m1
  have b := nh_m2
  have c := nh_m5
  have d := nh_p0
  rw [Int32.lt_iff_toInt_lt] at h
  refine ⟨?_, ?_, ?_⟩
  · rw [Int32.lt_iff_toInt_lt]; omega
  · rw [Int32.lt_iff_toInt_lt]; omega
  · intro e; rw [e] at h; omega
/-- an outcome: too low, an error, -1, too high, a class -/
theorem nh_out (x : Int32) {c : Nat} (hc : c ≤ 5) : x < -5 ∨ (x = -5 ∨ x = -4 ∨ x = -3 ∨ x = -2) ∨ x = -1 ∨ (¬ x < 0 ∧ nI c ≤ x) ∨ ∃ o : Nat, o < c ∧ x = nI o := by
  by_cases h0 : x < 0
  · by_cases h5 : x < -5
    · exact Or.inl h5
    · have a := nh_m1
      have b := nh_m2
      have c := nh_m5
      have d := nh_p0
      have e : (-3 : Int32).toInt = -3 := by decide
      have f : (-4 : Int32).toInt = -4 := by decide
      rw [Int32.lt_iff_toInt_lt] at h0 h5
      have g : x.toInt = -5 ∨ x.toInt = -4 ∨ x.toInt = -3 ∨ x.toInt = -2 ∨ x.toInt = -1 := by omega
      rcases g with g | g | g | g | g
      · exact Or.inr (Or.inl (Or.inl (Int32.toInt_inj.mp (g.trans c.symm))))
      · exact Or.inr (Or.inl (Or.inr (Or.inl (Int32.toInt_inj.mp (g.trans f.symm)))))
      · exact Or.inr (Or.inl (Or.inr (Or.inr (Or.inl (Int32.toInt_inj.mp (g.trans e.symm))))))
      · exact Or.inr (Or.inl (Or.inr (Or.inr (Or.inr (Int32.toInt_inj.mp (g.trans b.symm))))))
      · exact Or.inr (Or.inr (Or.inl (Int32.toInt_inj.mp (g.trans a.symm))))
  · rcases pk_ix x (n := c) (by omega) with h | h | h
    · exact absurd h h0
    · exact Or.inr (Or.inr (Or.inr (Or.inl ⟨h0, h⟩)))
    · exact Or.inr (Or.inr (Or.inr (Or.inr h)))
/-- what a host's cell may hold -/
def nh_H (x : Int32) : Prop := x = -100 ∨ (x = -5 ∨ x = -4 ∨ x = -3 ∨ x = -2) ∨ ∃ o : Nat, o < 5 ∧ x = nI o
/-- the reference's form of it -/
def nh_o (x : Int32) : Int32 := if x = -100 then -1 else x
theorem nh_o_1 : nh_o (-100) = -1 := if_pos rfl
theorem nh_o_n {x : Int32} (h : ¬ x = -100) : nh_o x = x := if_neg h
theorem nh_o_e {x : Int32} (h : x = -5 ∨ x = -4 ∨ x = -3 ∨ x = -2) : nh_o x = x ∧ ¬ x = -100 ∧ ¬ x = -1 ∧ x < 0 ∧ ¬ 0 ≤ x ∧ ¬ x < -5 ∧ ¬ -2 < x ∧ vp_nar .short x.toInt16.toInt32 = x := by
  rw [pk_vs]
  rcases h with h | h | h | h <;> subst h <;> exact ⟨by decide, by decide, by decide, by decide, by decide, by decide, by decide, by decide⟩
theorem nh_o_c {o : Nat} (h : o < 5) : nh_o (nI o) = nI o ∧ ¬ nI o = -100 ∧ ¬ nI o = -1 ∧ ¬ nI o < 0 ∧ 0 ≤ nI o ∧ ¬ nI o < -5 ∧ -2 < nI o ∧ vp_nar .short (nI o).toInt16.toInt32 = nI o := by
  have g : o = 0 ∨ o = 1 ∨ o = 2 ∨ o = 3 ∨ o = 4 := by omega
  rw [pk_vs]
  rcases g with g | g | g | g | g <;> subst g <;> exact ⟨by decide, by decide, by decide, by decide, by decide, by decide, by decide, by decide⟩
theorem nh_q1 {q : Nat} (h : q < 7) : vp_nar .short (nI q + 1).toInt16.toInt32 = nI (q + 1) := by
  have g : q = 0 ∨ q = 1 ∨ q = 2 ∨ q = 3 ∨ q = 4 ∨ q = 5 ∨ q = 6 := by omega
  rw [pk_vs]
  rcases g with g | g | g | g | g | g | g <;> subst g <;> decide
theorem nh_no {x : Int32} (h : nh_H x) (g : ¬ x = -100) : ¬ nh_o x = -1 := by
  rw [nh_o_n g]
  rcases h with h | h | ⟨o, ho, e⟩
  · exact absurd h g
  · exact (nh_o_e h).2.2.1
  · rw [e]; exact (nh_o_c ho).2.2.1
/-! the relation's facts -/
def nh_F (c p : Nat) (pk : Nat → Int64) (nm ho po pn ld pg oc ct rs : Nat → Int32) : Prop :=
  c ≤ 5 ∧ p ≤ 6 ∧ (∀ i, nh_H (ho i)) ∧ (∀ i, oc i = nh_o (ho i)) ∧ (∀ i, ld i = nh_hi (pk i)) ∧ (∀ i, pg i = nh_lo (pk i)) ∧ (∀ i, ∃ w, w < 65536 ∧ nm i = nI w) ∧ (∀ j, j < p → ∃ h, h < 5 ∧ po j = nI h) ∧ (∀ j, j < p → ∃ w, w < 65536 ∧ pn j = nI w) ∧ (∀ h, h < 5 → ct h = nI (nh_c po h p)) ∧ (∀ j h, j < p → h < 5 → po j = nI h → rs (h * 6 + nh_c po h j) = (pn j).toInt16.toInt32)
/-- the relation at the head of a turn: the same flag, count, names and kinds; the rest by nh_F -/
def i_Rel (_ : Nat) (u : SX) (v : SY) : Prop := ∃ (st : Int32) (c p : Nat) (pk : Nat → Int64) (nm kd ho po pn ld pg oc ct rs : Nat → Int32), u = (st, nI c, nI p, pk, nm, kd, ho, po, pn) ∧ v = (st, nI c, ld, pg, nm, kd, oc, ct, rs) ∧ nh_F c p pk nm ho po pn ld pg oc ct rs
section
variable {st : Int32} {c p : Nat} {pk : Nat → Int64} {nm kd ho po pn ld pg oc ct rs : Nat → Int32}
theorem nh_R {k : Nat} (F : nh_F c p pk nm ho po pn ld pg oc ct rs) : i_Rel k (st, nI c, nI p, pk, nm, kd, ho, po, pn) (st, nI c, ld, pg, nm, kd, oc, ct, rs) :=
  ⟨st, c, p, pk, nm, kd, ho, po, pn, ld, pg, oc, ct, rs, rfl, rfl, F⟩
theorem nh_F0 : nh_F 0 0 (fun _ => 0) (fun _ => 0) (fun _ => 0) (fun _ => 0) (fun _ => 0) (fun _ => 0) (fun _ => 0) (fun _ => 0) (fun _ => 0) (fun _ => 0) :=
  ⟨by decide, by decide, fun _ => Or.inr (Or.inr ⟨0, by decide, nI_0.symm⟩), fun _ => (by decide : (0 : Int32) = nh_o 0), fun _ => (by decide : (0 : Int32) = nh_hi 0), fun _ => (by decide : (0 : Int32) = nh_lo 0), fun _ => ⟨0, by decide, nI_0.symm⟩, fun j hj => absurd hj (Nat.not_lt_zero j), fun j hj => absurd hj (Nat.not_lt_zero j), fun _ _ => nI_0.symm, fun j _ hj => absurd hj (Nat.not_lt_zero j)⟩
/-- addClass -/
theorem nh_Fc (F : nh_F c p pk nm ho po pn ld pg oc ct rs) (hc : c < 5) (a : Int64) {w : Nat} (hw : w < 65536) : nh_F (c + 1) p (vp_updL pk c a) (upd nm c (nI w)) (upd ho c (-100)) po pn (upd ld c (nh_hi a)) (upd pg c (nh_lo a)) (upd oc c (-1)) ct rs := by
  obtain ⟨_, h2, h3, h4, h5, h6, h7, h8, h9, h10, h11⟩ := F
  refine ⟨hc, h2, ?_, ?_, ?_, ?_, ?_, h8, h9, h10, h11⟩
  · intro i
    by_cases e : i = c
    · subst e; rw [pk_us]; exact Or.inl rfl
    · rw [pk_un e]; exact h3 i
  · intro i
    by_cases e : i = c
    · subst e; rw [pk_us, pk_us]; exact nh_o_1.symm
    · rw [pk_un e, pk_un e]; exact h4 i
  · intro i
    by_cases e : i = c
    · subst e; rw [pk_us, pk_uLs]
    · rw [pk_un e, pk_uLn e]; exact h5 i
  · intro i
    by_cases e : i = c
    · subst e; rw [pk_us, pk_uLs]
    · rw [pk_un e, pk_uLn e]; exact h6 i
  · intro i
    by_cases e : i = c
    · subst e; rw [pk_us]; exact ⟨w, hw, rfl⟩
    · rw [pk_un e]; exact h7 i
/-- setHost -/
theorem nh_Fh (F : nh_F c p pk nm ho po pn ld pg oc ct rs) (j : Nat) {x : Int32} (hx : nh_H x) (hn : nh_o x = x) : nh_F c p pk nm (upd ho j x) po pn ld pg (upd oc j x) ct rs := by
  obtain ⟨h1, h2, h3, h4, h5, h6, h7, h8, h9, h10, h11⟩ := F
  refine ⟨h1, h2, ?_, ?_, h5, h6, h7, h8, h9, h10, h11⟩
  · intro i
    by_cases e : i = j
    · subst e; rw [pk_us]; exact hx
    · rw [pk_un e]; exact h3 i
  · intro i
    by_cases e : i = j
    · subst e; rw [pk_us, pk_us]; exact hn.symm
    · rw [pk_un e, pk_un e]; exact h4 i
/-- addMember -/
theorem nh_Fm (F : nh_F c p pk nm ho po pn ld pg oc ct rs) (hp : p < 6) {j : Nat} (hj : j < 5) {w : Nat} (hw : w < 65536) : nh_F c (p + 1) pk nm ho (upd po p (nI j)) (upd pn p (nI w)) ld pg oc (upd ct j (nI (nh_c po j p + 1))) (upd rs (j * 6 + nh_c po j p) (nI w).toInt16.toInt32) := by
  obtain ⟨h1, h2, h3, h4, h5, h6, h7, h8, h9, h10, h11⟩ := F
  have U : upd po p (nI j) p = nI j := pk_us
  refine ⟨h1, hp, h3, h4, h5, h6, h7, ?_, ?_, ?_, ?_⟩
  · intro i hi
    by_cases e : i = p
    · subst e; exact ⟨j, hj, pk_us⟩
    · rw [pk_un e]; exact h8 i (by omega)
  · intro i hi
    by_cases e : i = p
    · subst e; exact ⟨w, hw, pk_us⟩
    · rw [pk_un e]; exact h9 i (by omega)
  · intro h hh
    by_cases e : h = j
    · subst e
      rw [pk_us, nh_c_s U, nh_c_upd po (nI h) h p p (Nat.le_refl p)]
    · have n : ¬ upd po p (nI j) p = nI h := fun z => e (nh_eqI hj hh (U.symm.trans z)).symm
      rw [pk_un e, nh_c_n n, nh_c_upd po (nI j) h p p (Nat.le_refl p)]
      exact h10 h hh
  · intro i h hi hh e
    rw [nh_c_upd po (nI j) h p i (by omega)]
    by_cases g : i = p
    · subst g
      have q : j = h := nh_eqI hj hh (U.symm.trans e)
      subst q
      rw [pk_us, pk_us]
    · rw [pk_un g] at e
      have lt := nh_c_lt (p := p) (by omega) e
      have l1 := nh_c_le po h p
      have l2 := nh_c_le po j p
      have d : h * 6 + nh_c po h i ≠ j * 6 + nh_c po j p := by
        by_cases q : h = j
        · subst q; omega
        · omega
      rw [pk_un d, pk_un g]
      exact h11 i h (by omega) hh e
/-- what the component's scan finds, the reference's row holds -/
theorem nh_iff (F : nh_F c p pk nm ho po pn ld pg oc ct rs) {h m : Nat} (hh : h < 5) : (∃ j, j < p ∧ po j = nI h ∧ pn j = nm m) ↔ (∃ k, k < nh_c po h p ∧ rs (h * 6 + k) = (nm m).toInt16.toInt32) := by
  obtain ⟨h1, h2, h3, h4, h5, h6, h7, h8, h9, h10, h11⟩ := F
  constructor
  · intro ⟨j, hj, a, b⟩
    exact ⟨nh_c po h j, nh_c_lt hj a, by rw [h11 j h hj hh a, b]⟩
  · intro ⟨k, hk, e⟩
    obtain ⟨j, hj, a, b⟩ := nh_c_at po h k p hk
    obtain ⟨w, hw, ew⟩ := h9 j hj
    obtain ⟨w', hw', ew'⟩ := h7 m
    have g := h11 j h hj hh a
    rw [b, e, ew, ew'] at g
    exact ⟨j, hj, a, by rw [ew, ew', nh_s16i hw' hw g]⟩
end
end
section
section
variable {st : Int32} {c p : Nat} {pk : Nat → Int64} {nm kd ho po pn ld pg oc ct rs : Nat → Int32}
/-! the component's count of a class's entries -/
theorem nh_ent {post : Int32 → Prop} {h : Nat} (hp : p ≤ 6) (K : post (nI (nh_c po h p))) : ∀ n i : Nat, i ≤ p → p - i < n → wX_entriesOf_4 post (nI h) st (nI c) (nI p) pk nm kd ho po pn n (nI (nh_c po h i)) (nI i) := by
  intro n
  induction n with
  | zero => intro i _ hn; exact absurd hn (Nat.not_lt_zero _)
  | succ n ih =>
    intro i hi hn
    by_cases e : i = p
    · subst e; exact br_t (nI_le (Nat.le_refl _) (by omega)) K
    · refine br_f (nI_ge (by omega) (by omega)) ⟨vp_in_nI (by omega) (by omega), ?_⟩
      have I1 := ih (i + 1) (by omega) (by omega)
      rw [nI_clamp (by omega)]
      by_cases g : po i = nI h
      · rw [nh_c_s g] at I1
        exact br_t g (nm_r (nI_1 _) (nm_r (nI_1 _) I1))
      · rw [nh_c_n g] at I1
        exact br_f g (nm_r (nI_1 _) I1)
theorem nh_entW {post : Int32 → Prop} {h : Nat} (hp : p ≤ 6) (K : post (nI (nh_c po h p))) : wpX_entriesOf post (st, nI c, nI p, pk, nm, kd, ho, po, pn) (nI h) := by
  unfold wpX_entriesOf
  dsimp only
  exact ⟨p + 1, nh_ent hp K (p + 1) 0 (Nat.zero_le _) (by omega)⟩
/-! the component's scan -/
theorem nh_d51 {post : Int32 → Prop} {s : Int32} {m h : Nat} (hp : p ≤ 6) (hm : m < 5) (K : wX_determine_96 post (nI m) s (nI h) (nh_f po pn h (nm m) p) st (nI c) (nI p) pk nm kd ho po pn) : ∀ n i : Nat, i ≤ p → p - i < n → wX_determine_51 post (nI m) s (nI h) st (nI c) (nI p) pk nm kd ho po pn n (nh_f po pn h (nm m) i) (nI i) := by
  intro n
  induction n with
  | zero => intro i _ hn; exact absurd hn (Nat.not_lt_zero _)
  | succ n ih =>
    intro i hi hn
    by_cases e : i = p
    · subst e; exact br_t (nI_le (Nat.le_refl _) (by omega)) K
    · refine br_f (nI_ge (by omega) (by omega)) ⟨vp_in_nI (by omega) (by omega), ?_⟩
      have I1 := ih (i + 1) (by omega) (by omega)
      rw [nI_clamp (n := i) (by omega)]
      by_cases g : po i = nI h
      · refine br_t g ⟨vp_in_nI (by omega) (by omega), vp_in_nI hm (by omega), ?_⟩
        rw [nI_clamp (n := m) (by omega)]
        by_cases w : pn i = nm m
        · rw [nh_f_y g w] at I1
          exact br_t w (nm_r (nI_1 _) I1)
        · rw [nh_f_n (fun z => w z.2)] at I1
          exact br_f w (nm_r (nI_1 _) I1)
      · rw [nh_f_n (fun z => g z.1)] at I1
        exact br_f g (nm_r (nI_1 _) I1)
/-! the reference's scan of a row -/
theorem nh_6 (h k : Nat) : nI h * 6 + nI k = nI (h * 6 + k) := by
  rw [← nI_add, ← pk_mul]; rfl
theorem nh_l17 {post : Int32 → Prop} {x : Int32} {h q : Nat} (hh : h < 5) (hq : q ≤ 6) (e : ct h = nI q) (Y : (∃ k, k < q ∧ rs (h * 6 + k) = x) → post 1) (N : ¬ (∃ k, k < q ∧ rs (h * 6 + k) = x) → post 0) : ∀ n i : Nat, i ≤ 6 → 6 - i < n → (∀ k, k < i → ¬ (k < q ∧ rs (h * 6 + k) = x)) → wY_lists_17 post (nI h) x st (nI c) ld pg nm kd oc ct rs n (nI i) := by
  intro n
  induction n with
  | zero => intro i _ hn; exact absurd hn (Nat.not_lt_zero _)
  | succ n ih =>
    intro i hi hn H
    by_cases l : i = 6
    · refine br_t (nI_le (a := 6) (by omega) (by omega)) (N ?_)
      intro ⟨k, a, b⟩
      exact H k (by omega) ⟨a, b⟩
    · refine br_f (nI_ge (b := 6) (by omega) (by omega)) ⟨vp_in_nI hh (by omega), ?_⟩
      rw [nI_clamp (n := h) (by omega), e]
      by_cases g : q ≤ i
      · exact br_t (nI_le g (by omega)) (nm_r (nI_1 _) (ih (i + 1) (by omega) (by omega) (lt_s H (fun z => by omega))))
      · refine br_f (nI_ge (by omega) (by omega)) ?_
        rw [nh_6]
        refine ⟨vp_in_nI (by omega) (by omega), ?_⟩
        rw [nI_clamp (n := h * 6 + i) (by omega)]
        by_cases w : rs (h * 6 + i) = x
        · exact br_t w (Y ⟨i, by omega, w⟩)
        · exact br_f w (nm_r (nI_1 _) (ih (i + 1) (by omega) (by omega) (lt_s H (fun z => w z.2))))
theorem nh_lst {post : Int32 → Prop} {h m q : Nat} (hh : h < 5) (hm : m < 5) (hq : q ≤ 6) (e : ct h = nI q) (Y : (∃ k, k < q ∧ rs (h * 6 + k) = (nm m).toInt16.toInt32) → post 1) (N : ¬ (∃ k, k < q ∧ rs (h * 6 + k) = (nm m).toInt16.toInt32) → post 0) : wpY_lists post (st, nI c, ld, pg, nm, kd, oc, ct, rs) (nI h) (nI m) := by
  unfold wpY_lists
  dsimp only
  refine ⟨vp_in_nI hm (by omega), ?_⟩
  rw [nI_clamp (n := m) (by omega)]
  exact nm_e ⟨7, nh_l17 hh hq e Y N 7 0 (by omega) (by omega) lt_0⟩
/-- the reference behind the packages: x is 'it has failed already' -/
theorem nh_h64 {post : Int32 → Prop} {s x : Int32} {h m : Nat} (F : nh_F c p pk nm ho po pn ld pg oc ct rs) (hh : h < 5) (hm : m < 5) (Y : (∃ j, j < p ∧ po j = nI h ∧ pn j = nm m) → wY_host_88 post (nI m) s (nI h) x st (nI c) ld pg nm kd oc ct rs) (N : ¬ (∃ j, j < p ∧ po j = nI h ∧ pn j = nm m) → wY_host_88 post (nI m) s (nI h) 1 st (nI c) ld pg nm kd oc ct rs) : wY_host_64 post (nI m) s (nI h) x st (nI c) ld pg nm kd oc ct rs := by
  have J := nh_iff (m := m) F hh
  obtain ⟨h1, h2, h3, h4, h5, h6, h7, h8, h9, h10, h11⟩ := F
  have e := h10 h hh
  have l := nh_c_le po h p
  rw [J] at Y N
  unfold wY_host_64
  refine ⟨vp_in_nI hh (by omega), ?_⟩
  rw [nI_clamp (n := h) (by omega), e]
  by_cases z : nh_c po h p = 0
  · refine br_t (by rw [z]; rfl) ?_
    have no : ¬ (∃ k, k < nh_c po h p ∧ rs (h * 6 + k) = (nm m).toInt16.toInt32) := by
      intro ⟨k, a, _⟩
      omega
    unfold wY_host_76
    exact nh_lst hh hm (by omega) e (fun y => absurd y no) (fun _ => br_t rfl (N no))
  · refine br_f (nI_ne0 (by omega) (by omega)) ?_
    unfold wY_host_76
    exact nh_lst hh hm (by omega) e (fun y => br_f (by decide) (Y y)) (fun n => br_t rfl (N n))
/-- one answer for both -/
theorem nh_det (F : nh_F c p pk nm ho po pn ld pg oc ct rs) {m : Nat} (hm : m < 5) (s : Int32) : ∃ r : Int32, (∀ post : Int32 → Prop, post r → wpX_determine post (st, nI c, nI p, pk, nm, kd, ho, po, pn) (nI m) s) ∧ (∀ post : Int32 → Prop, post r → wpY_host post (st, nI c, ld, pg, nm, kd, oc, ct, rs) (nI m) s) := by
  have F' := F
  obtain ⟨h1, h2, h3, h4, h5, h6, h7, h8, h9, h10, h11⟩ := F'
  have im : vp_in (nI m) 5 := vp_in_nI hm (by omega)
  have cm : (nI m).toNatClampNeg = m := nI_clamp (by omega)
  have om := h4 m
  unfold wpX_determine wpY_host
  dsimp only
  rw [cm]
  rcases h3 m with e | e | ⟨h, hh, e⟩
  · have o1 : oc m = -1 := by rw [om, e]; exact nh_o_1
    exact ⟨nI m, fun post K => ⟨im, nm_r e (br_t rfl K)⟩, fun post K => ⟨im, nm_r o1 (br_t rfl K)⟩⟩
  · obtain ⟨e1, e2, e3, e4, e5, _⟩ := nh_o_e e
    have o1 : oc m = ho m := by rw [om, e1]
    by_cases z : s = 0
    · exact ⟨nI m, fun post K => ⟨im, nm_e (br_f e2 (br_f e5 (br_t z K)))⟩, fun post K => ⟨im, nm_r o1 (br_f e3 (br_f e5 (br_t z K)))⟩⟩
    · exact ⟨ho m, fun post K => ⟨im, nm_e (br_f e2 (br_f e5 (br_f z K)))⟩, fun post K => ⟨im, nm_r o1 (br_f e3 (br_f e5 (br_f z K)))⟩⟩
  · obtain ⟨e1, e2, e3, e4, e5, _⟩ := nh_o_c hh
    have o1 : oc m = nI h := by rw [om, e, e1]
    have ih : vp_in (nI h) 5 := vp_in_nI hh (by omega)
    have ch : (nI h).toNatClampNeg = h := nI_clamp (by omega)
    have fin : ∃ r : Int32, ∀ post : Int32 → Prop, post r → (s = 0 → post (nI m)) ∧ (¬ s = 0 → post (-5)) := by
      by_cases z : s = 0
      · exact ⟨nI m, fun post K => br_t z K⟩
      · exact ⟨-5, fun post K => br_f z K⟩
    obtain ⟨r, R⟩ := fin
    have X0 : ∀ post : Int32 → Prop, post r → wX_determine_96 post (nI m) s (nI h) 0 st (nI c) (nI p) pk nm kd ho po pn := fun post K => br_t rfl (R post K)
    have Y1 : ∀ post : Int32 → Prop, post r → wY_host_88 post (nI m) s (nI h) 1 st (nI c) ld pg nm kd oc ct rs := fun post K => br_f (by decide) (R post K)
    by_cases g : pk h = pk m
    · have gl : ld h = ld m := by rw [h5, h5, g]
      have gg : pg h = pg m := by rw [h6, h6, g]
      by_cases A : ∃ j, j < p ∧ po j = nI h ∧ pn j = nm m
      · refine ⟨nI h, fun post K => ⟨im, nm_r e (br_f e2 (br_t e5 ⟨ih, im, ?_⟩))⟩, fun post K => ⟨im, nm_r o1 (br_f e3 (br_t e5 ⟨ih, im, ?_⟩))⟩⟩
        · rw [ch]
          refine br_t g ⟨p + 1, nh_d51 h2 hm ?_ (p + 1) 0 (Nat.zero_le _) (by omega)⟩
          rw [nh_f_1 p A]
          exact br_f (by decide) K
        · rw [ch]
          exact br_t gl ⟨ih, im, br_t gg (nh_h64 F hh hm (fun _ => br_t rfl K) (fun n => absurd A n))⟩
      · refine ⟨r, fun post K => ⟨im, nm_r e (br_f e2 (br_t e5 ⟨ih, im, ?_⟩))⟩, fun post K => ⟨im, nm_r o1 (br_f e3 (br_t e5 ⟨ih, im, ?_⟩))⟩⟩
        · rw [ch]
          refine br_t g ⟨p + 1, nh_d51 h2 hm ?_ (p + 1) 0 (Nat.zero_le _) (by omega)⟩
          rw [nh_f_0 p A]
          exact X0 post K
        · rw [ch]
          exact br_t gl ⟨ih, im, br_t gg (nh_h64 F hh hm (fun y => absurd y A) (fun _ => Y1 post K))⟩
    · refine ⟨r, fun post K => ⟨im, nm_r e (br_f e2 (br_t e5 ⟨ih, im, ?_⟩))⟩, fun post K => ⟨im, nm_r o1 (br_f e3 (br_t e5 ⟨ih, im, ?_⟩))⟩⟩
      · rw [ch]
        exact br_f g (X0 post K)
      · rw [ch]
        have Y61 : wY_host_61 post (nI m) s (nI h) st (nI c) ld pg nm kd oc ct rs := by
          unfold wY_host_61
          exact nh_h64 F hh hm (fun _ => Y1 post K) (fun _ => Y1 post K)
        by_cases gl : ld h = ld m
        · refine br_t gl ⟨ih, im, br_f (fun gg => g ?_) Y61⟩
          exact nh_inj (by rw [← h5, ← h5, gl]) (by rw [← h6, ← h6, gg])
        · exact br_f gl Y61
/-! the reference's sum of the counts -/
theorem nh_s44 {post : Int32 → SY → Prop} {x1 x2 : Int32} (F : nh_F c p pk nm ho po pn ld pg oc ct rs) (K : ∀ n : Nat, wY_addMember_44 post x1 x2 st (nI c) ld pg nm kd oc ct rs (n + 1) (nI p) 5) : ∀ n i : Nat, i ≤ 5 → 5 - i < n → wY_addMember_44 post x1 x2 st (nI c) ld pg nm kd oc ct rs n (nI (nh_t po p i)) (nI i) := by
  obtain ⟨h1, h2, h3, h4, h5, h6, h7, h8, h9, h10, h11⟩ := F
  intro n
  induction n with
  | zero => intro i _ hn; exact absurd hn (Nat.not_lt_zero _)
  | succ n ih =>
    intro i hi hn
    by_cases e : i = 5
    · subst e
      have k := K n
      rw [← nh_t5 po p h8] at k
      exact k
    · refine br_f (nI_ge (b := 5) (by omega) (by omega)) ⟨vp_in_nI (by omega) (by omega), ?_⟩
      rw [nI_clamp (n := i) (by omega), h10 i (by omega)]
      exact nm_r (nI_add _ _) (nm_r (nI_1 _) (ih (i + 1) (by omega) (by omega)))
end
end
section
theorem i_up {k : Nat} {u : SX} {v : SY} (h : i_Rel k u v) : i_Rel (k + 5) u v := h
theorem i_vc0 (k0 : Int32) : wpX_init (fun u => wpY_init (fun v => i_Rel 1 u v) k0) k0 := by
  by_cases a : 11 ≤ k0
  · by_cases b : 15 ≤ k0
    · exact br_t a (br_t b ⟨rfl, rfl, br_t a (br_t b (nh_R (c := 0) (p := 0) nh_F0))⟩)
    · exact br_t a (br_f b ⟨rfl, rfl, br_t a (br_f b (nh_R (c := 0) (p := 0) nh_F0))⟩)
  · exact br_f a (br_f (by decide) ⟨rfl, rfl, br_f a (br_f (by decide) (nh_R (c := 0) (p := 0) nh_F0))⟩)
theorem nh_b0 : (0 : Int32).toInt8.toInt32 = 0 ∧ (1 : Int32).toInt8.toInt32 = 1 ∧ (2 : Int32).toInt8.toInt32 = 2 := by decide
theorem nh_kd {x : Int32} (h : x = 0 ∨ x = 1 ∨ x = 2) : ¬ x < 0 ∧ x ≤ 2 ∧ vp_nar .byte x.toInt8.toInt32 = x := by
  rw [pk_vb]
  rcases h with h | h | h <;> subst h <;> exact ⟨by decide, by decide, by decide⟩
theorem nh_nk {x : Int32} (h0 : ¬ x = 0) (h1 : ¬ x = 1) (h2 : ¬ x = 2) : x < 0 ∨ (¬ x < 0 ∧ ¬ x ≤ 2) := by
  by_cases h : x < 0
  · exact Or.inl h
  · refine Or.inr ⟨h, ?_⟩
    intro g
    obtain ⟨j, hj, e⟩ := nI_of2 (M := 2) (n := 2) (by decide) h g
    have q : j = 0 ∨ j = 1 ∨ j = 2 := by omega
    rcases q with q | q | q
    · subst q; exact h0 e
    · subst q; exact h1 e
    · subst q; exact h2 e
section
variable {st : Int32} {c p : Nat} {pk : Nat → Int64} {nm kd ho po pn ld pg oc ct rs : Nat → Int32}
theorem nh_ac {k : Nat} (F : nh_F c p pk nm ho po pn ld pg oc ct rs) (a0 : Int64) (v3 v4 : Int32) (h4 : v4 = 0 ∨ v4 = 1 ∨ v4 = 2) : wX_addClass_20 (fun r u' => wpY_addClass (fun r' v' => r' = r ∧ i_Rel (k + 5) u' v') (st, nI c, ld, pg, nm, kd, oc, ct, rs) a0 v3 v4) a0 v3 v4 st (nI c) (nI p) pk nm kd ho po pn := by
  obtain ⟨a, b, d⟩ := nh_kd h4
  have hc := F.1
  by_cases l : c < 5
  · obtain ⟨w, hw, e1, e2⟩ := em_w v3
    have ic : vp_in (nI c) 5 := vp_in_nI l (by omega)
    have cc : (nI c).toNatClampNeg = c := nI_clamp (by omega)
    have lt : nI c < 5 := nI_lt (b := 5) l (by omega)
    have e3 : vp_nar .char (v3.toUInt32 % 65536).toInt32 = nI w := (pk_vc v3).trans e1
    have e4 : vp_nar .short (-1) = -1 := by rw [vp_nar_short]; decide
    unfold wX_addClass_20 wpY_addClass
    dsimp only
    rw [cc, e2, e3, e4, d]
    exact br_t lt ⟨ic, nm_e ⟨ic, nm_e ⟨ic, nm_e ⟨ic, nm_e (nm_r (nI_1 c) (br_f a (br_t b (br_t lt ⟨ic, nm_e ⟨ic, nm_e ⟨ic, nm_e ⟨ic, nm_e ⟨ic, nm_e (nm_r (nI_1 c) ⟨rfl, nh_R (nh_Fc F l a0 hw)⟩)⟩⟩⟩⟩⟩)))) ⟩⟩⟩⟩
  · have nl : ¬ nI c < 5 := nI_nlt (b := 5) (by omega) (by omega)
    exact br_f nl (br_f a (br_t b (br_f nl ⟨rfl, nh_R F⟩)))
end
theorem i_vc_addClass {k : Nat} {u : SX} {v : SY} (I : i_Rel k u v) (hk : k + 5 ≤ 2561) (a0 : Int64) (v3 : Int32) (v4 : Int32) : wpX_addClass (fun r u' => wpY_addClass (fun r' v' => r' = r ∧ i_Rel (k + 5) u' v') v a0 v3 v4) u a0 v3 v4 := by
  obtain ⟨st, c, p, pk, nm, kd, ho, po, pn, ld, pg, oc, ct, rs, rfl, rfl, F⟩ := I
  by_cases h0 : v4 = 0
  · exact br_t h0 (nh_ac F a0 v3 v4 (Or.inl h0))
  · by_cases h1 : v4 = 1
    · exact br_f h0 (br_t h1 (nh_ac F a0 v3 v4 (Or.inr (Or.inl h1))))
    · by_cases h2 : v4 = 2
      · exact br_f h0 (br_f h1 (br_t h2 (nh_ac F a0 v3 v4 (Or.inr (Or.inr h2)))))
      · refine br_f h0 (br_f h1 (br_f h2 ?_))
        rcases nh_nk h0 h1 h2 with g | ⟨g, g'⟩
        · exact br_t g ⟨rfl, nh_R F⟩
        · exact br_f g (br_f g' ⟨rfl, nh_R F⟩)
theorem i_vc_setHost {k : Nat} {u : SX} {v : SY} (I : i_Rel k u v) (hk : k + 5 ≤ 2561) (v1 : Int32) (v2 : Int32) (v3 : Int32) : wpX_setHost (fun r u' => wpY_setHost (fun r' v' => r' = r ∧ i_Rel (k + 5) u' v') v v1 v2 v3) u v1 v2 v3 := by
  obtain ⟨st, c, p, pk, nm, kd, ho, po, pn, ld, pg, oc, ct, rs, rfl, rfl, F⟩ := I
  have F' := F
  obtain ⟨h1, h2, h3, h4, h5, h6, h7, h8, h9, h10, h11⟩ := F'
  rcases pk_ix v1 (n := c) (by omega) with h | h | ⟨j, hj, rfl⟩
  · exact br_t h (br_t h ⟨rfl, nh_R F⟩)
  · have n0 : ¬ v1 < 0 := Int32.not_lt.mpr (Int32.le_trans (nI_pos' (by omega)) h)
    have nc : ¬ v1 < nI c := Int32.not_lt.mpr h
    exact br_f n0 (br_f nc (br_f n0 (br_f nc ⟨rfl, nh_R F⟩)))
  · have n0 : ¬ nI j < 0 := nI_pos (by omega)
    have lc : nI j < nI c := nI_lt hj (by omega)
    have ij : vp_in (nI j) 5 := vp_in_nI (by omega) (by omega)
    have cj : (nI j).toNatClampNeg = j := nI_clamp (by omega)
    have oj := h4 j
    have kj := h10 j (by omega)
    have lj := nh_c_le po j p
    unfold wpX_setHost wpY_setHost
    dsimp only
    rw [cj]
    by_cases k0 : kd j = 0
    · by_cases g : ho j = -100
      · have o1 : oc j = -1 := by rw [oj, g]; exact nh_o_1
        refine br_f n0 (br_t lc ⟨ij, br_t k0 ⟨ij, br_t g (nh_entW h2 ?_)⟩⟩)
        by_cases z : nh_c po j p = 0
        · have cz : ct j = 0 := by rw [kj, z]; rfl
          refine br_t (by rw [z]; decide) ?_
          rcases nh_out v3 h1 with q | q | q | ⟨q0, q⟩ | ⟨o, ho', q⟩
          · have m0 : v3 < 0 := Int32.lt_trans q (by decide)
            have mc : ¬ nI c ≤ v3 := fun t => Int32.not_lt.mpr (Int32.le_trans (nI_pos' (by omega)) t) m0
            exact br_t q (br_t m0 (br_t rfl (br_t rfl (br_f n0 (br_t lc ⟨ij, br_t k0 ⟨ij, br_t o1 ⟨ij, br_t cz (br_f mc (br_t q ⟨rfl, nh_R F⟩))⟩⟩⟩)))))
          · obtain ⟨e1, e2, e3, e4, e5, e6, e7, e8⟩ := nh_o_e q
            have mc : ¬ nI c ≤ v3 := fun t => e5 (Int32.le_trans (nI_pos' (by omega)) t)
            refine br_f e6 (br_f e7 (br_t e4 (br_f (by decide) (br_t rfl ⟨ij, ?_⟩))))
            rw [cj]
            refine nm_e (br_f n0 (br_t lc ⟨ij, br_t k0 ⟨ij, br_t o1 ⟨ij, br_t cz (br_f mc (br_f e6 (br_f e3 (br_t e4 ⟨ij, ?_⟩))))⟩⟩⟩))
            rw [cj, e8]
            exact nm_e ⟨rfl, nh_R (nh_Fh F j (Or.inr (Or.inl q)) e1)⟩
          · have m0 : v3 < 0 := by rw [q]; decide
            have m5 : ¬ v3 < -5 := by rw [q]; decide
            have m2 : -2 < v3 := by rw [q]; decide
            have mc : ¬ nI c ≤ v3 := fun t => Int32.not_lt.mpr (Int32.le_trans (nI_pos' (by omega)) t) m0
            exact br_f m5 (br_t m2 (br_t m0 (br_t rfl (br_t rfl (br_f n0 (br_t lc ⟨ij, br_t k0 ⟨ij, br_t o1 ⟨ij, br_t cz (br_f mc (br_f m5 (br_t q ⟨rfl, nh_R F⟩)))⟩⟩⟩))))))
          · obtain ⟨m5, m2, m1⟩ := nh_nn q0
            exact br_f m5 (br_t m2 (br_f q0 (br_t q (br_t rfl (br_t rfl (br_f n0 (br_t lc ⟨ij, br_t k0 ⟨ij, br_t o1 ⟨ij, br_t cz (br_t q ⟨rfl, nh_R F⟩)⟩⟩⟩)))))))
          · subst q
            obtain ⟨e1, e2, e3, e4, e5, e6, e7, e8⟩ := nh_o_c (o := o) (by omega)
            have mc : ¬ nI c ≤ nI o := nI_ge ho' (by omega)
            have io : vp_in (nI o) 5 := vp_in_nI (by omega) (by omega)
            have co : (nI o).toNatClampNeg = o := nI_clamp (by omega)
            obtain ⟨w, hw, w1, w2⟩ := em_w v2
            refine br_f e6 (br_t e7 (br_f e4 (br_f mc (br_t rfl (br_f (by decide) (br_f (by decide) ⟨io, ?_⟩))))))
            rw [co, w2, w1]
            by_cases y : nm o = nI w
            · refine br_t y ⟨ij, ?_⟩
              rw [cj]
              refine nm_e (br_f n0 (br_t lc ⟨ij, br_t k0 ⟨ij, br_t o1 ⟨ij, br_t cz (br_f mc (br_f e6 (br_f e3 (br_f e4 ⟨io, br_t y ⟨ij, ?_⟩⟩))))⟩⟩⟩))
              rw [cj, e8]
              exact nm_e ⟨rfl, nh_R (nh_Fh F j (Or.inr (Or.inr ⟨o, by omega, rfl⟩)) e1)⟩
            · exact br_f y (br_f n0 (br_t lc ⟨ij, br_t k0 ⟨ij, br_t o1 ⟨ij, br_t cz (br_f mc (br_f e6 (br_f e3 (br_f e4 ⟨io, br_f y ⟨rfl, nh_R F⟩⟩))))⟩⟩⟩))
        · have cz : ¬ ct j = 0 := by rw [kj]; exact nI_ne0 (by omega) (by omega)
          exact br_f (nI_nle (by omega) (by omega)) (br_f n0 (br_t lc ⟨ij, br_t k0 ⟨ij, br_t o1 ⟨ij, br_f cz ⟨rfl, nh_R F⟩⟩⟩⟩))
      · have o1 : ¬ oc j = -1 := by rw [oj]; exact nh_no (h3 j) g
        exact br_f n0 (br_t lc ⟨ij, br_t k0 ⟨ij, br_f g (br_f n0 (br_t lc ⟨ij, br_t k0 ⟨ij, br_f o1 ⟨rfl, nh_R F⟩⟩⟩))⟩⟩)
    · exact br_f n0 (br_t lc ⟨ij, br_f k0 (br_f n0 (br_t lc ⟨ij, br_f k0 ⟨rfl, nh_R F⟩⟩))⟩)
theorem i_vc_addMember {k : Nat} {u : SX} {v : SY} (I : i_Rel k u v) (hk : k + 5 ≤ 2561) (v1 : Int32) (v2 : Int32) : wpX_addMember (fun r u' => wpY_addMember (fun r' v' => r' = r ∧ i_Rel (k + 5) u' v') v v1 v2) u v1 v2 := by
  obtain ⟨st, c, p, pk, nm, kd, ho, po, pn, ld, pg, oc, ct, rs, rfl, rfl, F⟩ := I
  have F' := F
  obtain ⟨h1, h2, h3, h4, h5, h6, h7, h8, h9, h10, h11⟩ := F'
  rcases pk_ix v1 (n := c) (by omega) with h | h | ⟨j, hj, rfl⟩
  · exact br_t h (br_t h ⟨rfl, nh_R F⟩)
  · have n0 : ¬ v1 < 0 := Int32.not_lt.mpr (Int32.le_trans (nI_pos' (by omega)) h)
    have nc : ¬ v1 < nI c := Int32.not_lt.mpr h
    exact br_f n0 (br_f nc (br_f n0 (br_f nc ⟨rfl, nh_R F⟩)))
  · have n0 : ¬ nI j < 0 := nI_pos (by omega)
    have lc : nI j < nI c := nI_lt hj (by omega)
    have ij : vp_in (nI j) 5 := vp_in_nI (by omega) (by omega)
    have cj : (nI j).toNatClampNeg = j := nI_clamp (by omega)
    have cp : (nI p).toNatClampNeg = p := nI_clamp (by omega)
    have oj := h4 j
    have kj := h10 j (by omega)
    have lj := nh_c_le po j p
    unfold wpX_addMember wpY_addMember
    dsimp only
    rw [cj]
    by_cases k0 : kd j = 0
    · by_cases g : ho j = -100
      · have o1 : oc j = -1 := by rw [oj, g]; exact nh_o_1
        refine br_f n0 (br_t lc ⟨ij, br_t k0 ⟨ij, br_t g ?_⟩⟩)
        by_cases l : p < 6
        · have lp : nI p < 6 := nI_lt (b := 6) l (by omega)
          have ip : vp_in (nI p) 6 := vp_in_nI l (by omega)
          obtain ⟨w, hw, w1, w2⟩ := em_w v2
          have w3 : v2.toInt16.toInt32 = (nI w).toInt16.toInt32 := by rw [← nh_s16, w2]
          have U : upd po p (nI j) p = nI j := pk_us
          have q1 : nh_c (upd po p (nI j)) j (p + 1) = nh_c po j p + 1 := by rw [nh_c_s U, nh_c_upd po (nI j) j p p (Nat.le_refl p)]
          rw [cp, w2]
          refine br_t lp ⟨ip, nm_e ⟨ip, nm_e (nm_r (nI_1 p) (nh_entW (by omega) ?_))⟩⟩
          rw [q1]
          refine br_f n0 (br_t lc ⟨ij, br_t k0 ⟨ij, br_t o1 ⟨6, nh_s44 F (fun n => ?_) 6 0 (by omega) (by omega)⟩⟩⟩)
          refine br_t (by decide) (br_t lp ⟨ij, ij, ?_⟩)
          rw [cj, kj, nh_q1 (by omega), nh_6, pk_vs, w3]
          refine nm_e ⟨vp_in_nI (by omega) (by omega), ?_⟩
          rw [nI_clamp (n := j * 6 + nh_c po j p) (by omega)]
          exact nm_e ⟨ij, pk_us, nh_R (nh_Fm F l (by omega) hw)⟩
        · have lp : ¬ nI p < 6 := nI_nlt (b := 6) (by omega) (by omega)
          exact br_f lp (br_f n0 (br_t lc ⟨ij, br_t k0 ⟨ij, br_t o1 ⟨6, nh_s44 F (fun n => br_t (by decide) (br_f lp ⟨rfl, nh_R F⟩)) 6 0 (by omega) (by omega)⟩⟩⟩))
      · have o1 : ¬ oc j = -1 := by rw [oj]; exact nh_no (h3 j) g
        exact br_f n0 (br_t lc ⟨ij, br_t k0 ⟨ij, br_f g (br_f n0 (br_t lc ⟨ij, br_t k0 ⟨ij, br_f o1 ⟨rfl, nh_R F⟩⟩⟩))⟩⟩)
    · exact br_f n0 (br_t lc ⟨ij, br_f k0 (br_f n0 (br_t lc ⟨ij, br_f k0 ⟨rfl, nh_R F⟩⟩))⟩)
theorem i_vc_hostForAccess {k : Nat} {u : SX} {v : SY} (I : i_Rel k u v) (hk : k + 5 ≤ 2561) (v1 : Int32) : wpX_hostForAccess (fun r => wpY_hostForAccess (fun r' => r' = r ∧ i_Rel (k + 5) u v) v v1) u v1 := by
  obtain ⟨st, c, p, pk, nm, kd, ho, po, pn, ld, pg, oc, ct, rs, rfl, rfl, F⟩ := I
  have hc := F.1
  rcases pk_ix v1 (n := c) (by omega) with h | h | ⟨j, hj, rfl⟩
  · exact br_t h (br_t h ⟨rfl, nh_R F⟩)
  · have n0 : ¬ v1 < 0 := Int32.not_lt.mpr (Int32.le_trans (nI_pos' (by omega)) h)
    have nc : ¬ v1 < nI c := Int32.not_lt.mpr h
    exact br_f n0 (br_f nc (br_f n0 (br_f nc ⟨rfl, nh_R F⟩)))
  · have n0 : ¬ nI j < 0 := nI_pos (by omega)
    have lc : nI j < nI c := nI_lt hj (by omega)
    obtain ⟨r, X, Y⟩ := nh_det (st := st) (kd := kd) F (m := j) (by omega) st
    exact br_f n0 (br_t lc (X _ (br_f n0 (br_t lc (Y _ ⟨rfl, nh_R F⟩)))))
theorem i_vc_hostForReflect {k : Nat} {u : SX} {v : SY} (I : i_Rel k u v) (hk : k + 5 ≤ 2561) (v1 : Int32) : wpX_hostForReflect (fun r => wpY_hostForReflect (fun r' => r' = r ∧ i_Rel (k + 5) u v) v v1) u v1 := by
  obtain ⟨st, c, p, pk, nm, kd, ho, po, pn, ld, pg, oc, ct, rs, rfl, rfl, F⟩ := I
  have hc := F.1
  rcases pk_ix v1 (n := c) (by omega) with h | h | ⟨j, hj, rfl⟩
  · exact br_t h (br_t h ⟨rfl, nh_R F⟩)
  · have n0 : ¬ v1 < 0 := Int32.not_lt.mpr (Int32.le_trans (nI_pos' (by omega)) h)
    have nc : ¬ v1 < nI c := Int32.not_lt.mpr h
    exact br_f n0 (br_f nc (br_f n0 (br_f nc ⟨rfl, nh_R F⟩)))
  · have n0 : ¬ nI j < 0 := nI_pos (by omega)
    have lc : nI j < nI c := nI_lt hj (by omega)
    have ij : vp_in (nI j) 5 := vp_in_nI (by omega) (by omega)
    obtain ⟨r, X, Y⟩ := nh_det (st := st) (kd := kd) F (m := j) (by omega) 0
    by_cases z : kd (nI j).toNatClampNeg = 0
    · exact br_f n0 (br_t lc ⟨ij, br_t z (X _ (br_f n0 (br_t lc ⟨ij, br_t z (Y _ ⟨rfl, nh_R F⟩)⟩)))⟩)
    · exact br_f n0 (br_t lc ⟨ij, br_f z (br_f n0 (br_t lc ⟨ij, br_f z ⟨rfl, nh_R F⟩⟩))⟩)
theorem i_vc_nestmates {k : Nat} {u : SX} {v : SY} (I : i_Rel k u v) (hk : k + 5 ≤ 2561) (v1 : Int32) (v2 : Int32) : wpX_nestmates (fun r => wpY_nestmates (fun r' => r' = r ∧ i_Rel (k + 5) u v) v v1 v2) u v1 v2 := by
  obtain ⟨st, c, p, pk, nm, kd, ho, po, pn, ld, pg, oc, ct, rs, rfl, rfl, F⟩ := I
  have hc := F.1
  rcases pk_ix v1 (n := c) (by omega) with h | h | ⟨j, hj, rfl⟩
  · exact br_t h (br_t h ⟨rfl, nh_R F⟩)
  · have n0 : ¬ v1 < 0 := Int32.not_lt.mpr (Int32.le_trans (nI_pos' (by omega)) h)
    exact br_f n0 (br_t h (br_f n0 (br_t h ⟨rfl, nh_R F⟩)))
  · have n0 : ¬ nI j < 0 := nI_pos (by omega)
    have lc : ¬ nI c ≤ nI j := nI_ge hj (by omega)
    rcases pk_ix v2 (n := c) (by omega) with h | h | ⟨d, hd, rfl⟩
    · exact br_f n0 (br_f lc (br_t h (br_f n0 (br_f lc (br_t h ⟨rfl, nh_R F⟩)))))
    · have m0 : ¬ v2 < 0 := Int32.not_lt.mpr (Int32.le_trans (nI_pos' (by omega)) h)
      have nc : ¬ v2 < nI c := Int32.not_lt.mpr h
      exact br_f n0 (br_f lc (br_f m0 (br_f nc (br_f n0 (br_f lc (br_f m0 (br_f nc ⟨rfl, nh_R F⟩)))))))
    · have m0 : ¬ nI d < 0 := nI_pos (by omega)
      have mc : nI d < nI c := nI_lt hd (by omega)
      by_cases e : nI j = nI d
      · exact br_f n0 (br_f lc (br_f m0 (br_t mc (br_t e (br_f n0 (br_f lc (br_f m0 (br_t mc (br_t e ⟨rfl, nh_R F⟩)))))))))
      · obtain ⟨r, X, Y⟩ := nh_det (st := st) (kd := kd) F (m := d) (by omega) st
        obtain ⟨r2, X2, Y2⟩ := nh_det (st := st) (kd := kd) F (m := j) (by omega) st
        refine br_f n0 (br_f lc (br_f m0 (br_t mc (br_f e (X _ ?_)))))
        by_cases a : 0 ≤ r
        · refine br_t a (X2 _ ?_)
          by_cases b : 0 ≤ r2
          · by_cases q : r2 = r
            · exact br_t b (br_t q (br_f n0 (br_f lc (br_f m0 (br_t mc (br_f e (Y _ (br_t a (Y2 _ (br_t b (br_t q.symm ⟨rfl, nh_R F⟩)))))))))))
            · exact br_t b (br_f q (br_f n0 (br_f lc (br_f m0 (br_t mc (br_f e (Y _ (br_t a (Y2 _ (br_t b (br_f (fun t => q t.symm) ⟨rfl, nh_R F⟩)))))))))))
          · exact br_f b (br_f n0 (br_f lc (br_f m0 (br_t mc (br_f e (Y _ (br_t a (Y2 _ (br_f b ⟨rfl, nh_R F⟩)))))))))
        · exact br_f a (br_f n0 (br_f lc (br_f m0 (br_t mc (br_f e (Y _ (br_f a ⟨rfl, nh_R F⟩)))))))
theorem i_vc_packageOf {k : Nat} {u : SX} {v : SY} (I : i_Rel k u v) (hk : k + 5 ≤ 2561) (v1 : Int32) : wpX_packageOf (fun r => wpY_packageOf (fun r' => r' = r ∧ i_Rel (k + 5) u v) v v1) u v1 := by
  obtain ⟨st, c, p, pk, nm, kd, ho, po, pn, ld, pg, oc, ct, rs, rfl, rfl, F⟩ := I
  have F' := F
  obtain ⟨h1, h2, h3, h4, h5, h6, h7, h8, h9, h10, h11⟩ := F'
  rcases pk_ix v1 (n := c) (by omega) with h | h | ⟨j, hj, rfl⟩
  · exact br_t h (br_t h ⟨rfl, nh_R F⟩)
  · have n0 : ¬ v1 < 0 := Int32.not_lt.mpr (Int32.le_trans (nI_pos' (by omega)) h)
    have nc : ¬ v1 < nI c := Int32.not_lt.mpr h
    exact br_f n0 (br_f nc (br_f n0 (br_f nc ⟨rfl, nh_R F⟩)))
  · have n0 : ¬ nI j < 0 := nI_pos (by omega)
    have lc : nI j < nI c := nI_lt hj (by omega)
    have ij : vp_in (nI j) 5 := vp_in_nI (by omega) (by omega)
    refine br_f n0 (br_t lc ⟨ij, br_f n0 (br_t lc ⟨ij, ij, ?_, nh_R F⟩)⟩)
    rw [h5, h6]
    exact nh_join _
end
