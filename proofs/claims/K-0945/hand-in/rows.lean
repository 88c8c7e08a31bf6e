section
/-! the bits of a 32-bit and of a 64-bit number, and the char number q of a packed text -/
def gb_i (x : Int32) (j : Nat) : Bool := x.toBitVec.getLsbD j
def gb_l (t : Int64) (j : Nat) : Bool := t.toBitVec.getLsbD j
theorem gb_ext {x y : Int32} (h : ∀ j, j < 32 → gb_i x j = gb_i y j) : x = y := Int32.toBitVec_inj.mp (BitVec.eq_of_getLsbD_eq (fun j hj => h j hj))
theorem gb_iand (x y : Int32) (j : Nat) : gb_i (x &&& y) j = (gb_i x j && gb_i y j) := by unfold gb_i; rw [Int32.toBitVec_and, BitVec.getLsbD_and]
theorem gb_and (x y : Int64) (j : Nat) : gb_l (x &&& y) j = (gb_l x j && gb_l y j) := by unfold gb_l; rw [Int64.toBitVec_and, BitVec.getLsbD_and]
theorem gb_or (x y : Int64) (j : Nat) : gb_l (x ||| y) j = (gb_l x j || gb_l y j) := by unfold gb_l; rw [Int64.toBitVec_or, BitVec.getLsbD_or]
theorem gb_65535 (j : Nat) : gb_i 65535 j = decide (j < 16) := by
  rcases Nat.lt_or_ge j 32 with h | h
  · exact (by decide +kernel : ∀ j, j < 32 → gb_i 65535 j = decide (j < 16)) j h
  · rw [decide_eq_false (by omega)]; exact BitVec.getLsbD_of_ge _ _ h
theorem gb_sl : ∀ n, n < 64 → (((nI n).toInt64 &&& 63).toBitVec.smod 64).toNat = n := by decide +kernel
theorem gb_su : ∀ n, n < 64 → (((nI n).toInt64.toUInt64 &&& Int64.toUInt64 63).toBitVec % 64).toNat = n := by decide +kernel
theorem gb_shl (n : Nat) (hn : n < 64) (x : Int64) {j : Nat} (hj : j < 64) : gb_l (x <<< ((nI n).toInt64 &&& 63)) j = (decide (n ≤ j) && gb_l x (j - n)) := by
  unfold gb_l
  rw [Int64.toBitVec_shiftLeft]
  show (x.toBitVec <<< (((nI n).toInt64 &&& 63).toBitVec.smod 64).toNat).getLsbD j = _
  rw [gb_sl n hn, BitVec.getLsbD_shiftLeft]
  rcases Nat.lt_or_ge j n with h | h
  · simp [h, Nat.not_le.mpr h]
  · simp [hj, h, Nat.not_lt.mpr h]
theorem gb_shr (n : Nat) (hn : n < 64) (x : Int64) (j : Nat) : gb_l ((x.toUInt64 >>> ((nI n).toInt64.toUInt64 &&& Int64.toUInt64 63)).toInt64) j = gb_l x (n + j) := by
  show (x.toUInt64 >>> ((nI n).toInt64.toUInt64 &&& Int64.toUInt64 63)).toBitVec.getLsbD j = x.toUInt64.toBitVec.getLsbD (n + j)
  rw [UInt64.toBitVec_shiftRight]
  show (x.toUInt64.toBitVec >>> (((nI n).toInt64.toUInt64 &&& Int64.toUInt64 63).toBitVec % 64).toNat).getLsbD j = _
  rw [gb_su n hn, BitVec.getLsbD_ushiftRight]
theorem gb_shl16 (x : Int64) {j : Nat} (hj : j < 64) : gb_l (x <<< ((16 : Int32).toInt64 &&& 63)) j = (decide (16 ≤ j) && gb_l x (j - 16)) := gb_shl 16 (by decide) x hj
theorem gb_shr16 (x : Int64) (j : Nat) : gb_l ((x.toUInt64 >>> ((16 : Int32).toInt64.toUInt64 &&& Int64.toUInt64 63)).toInt64) j = gb_l x (16 + j) := gb_shr 16 (by decide) x j
theorem gb_low : ∀ q, q < 4 → ∀ j, j < 64 → gb_l (((1 : Int64) <<< ((nI (q * 16)).toInt64 &&& 63)) - 1) j = decide (j < q * 16) := by decide +kernel
theorem gb_wide (x : Int32) {j : Nat} (hj : j < 64) : gb_l x.toInt64 j = if j < 32 then gb_i x j else gb_i x 31 := by
  unfold gb_l gb_i
  rw [Int32.toBitVec_toInt64, BitVec.getLsbD_signExtend, BitVec.msb_eq_getLsbD_last]
  simp [hj]
theorem gb_nrw (x : Int64) (j : Nat) : gb_i x.toInt32 j = (decide (j < 32) && gb_l x j) := by
  unfold gb_l gb_i
  rw [Int64.toBitVec_toInt32, BitVec.getLsbD_signExtend]
  rcases Nat.lt_or_ge j 32 with h | h
  · rw [if_pos (by omega)]
  · simp [Nat.not_lt.mpr h]
/-! a char's store and the char cast are the mask 65535 -/
theorem gb_nar (x : Int32) : vp_nar .char x = x &&& 65535 := by rw [vp_nar_char, lg_i2c_mask]
theorem gb_cast (x : Int32) : (x.toUInt32 % 65536).toInt32 = x &&& 65535 := by rw [lg_i2c_nf, lg_i2c_mask]
theorem gb_mm (x : Int32) : (x &&& 65535) &&& 65535 = x &&& 65535 := by
  apply gb_ext
  intro j _
  rw [gb_iand, gb_iand, gb_65535, Bool.and_assoc, Bool.and_self]
/-! char number q of the text t -/
def gb_c (t : Int64) (q : Nat) : Int32 := (((t.toUInt64 >>> ((nI (q * 16)).toInt64.toUInt64 &&& Int64.toUInt64 63)).toInt64).toInt32) &&& 65535
theorem gb_cm (t : Int64) (q : Nat) : gb_c t q &&& 65535 = gb_c t q := gb_mm _
theorem gb_cb (t : Int64) {q : Nat} (hq : q < 4) (j : Nat) : gb_i (gb_c t q) j = (decide (j < 16) && gb_l t (q * 16 + j)) := by
  unfold gb_c
  rw [gb_iand, gb_nrw, gb_shr _ (by omega), gb_65535]
  rcases Nat.lt_or_ge j 16 with h | h
  · simp [h, show j < 32 by omega]
  · simp [Nat.not_lt.mpr h]
theorem gb_mb (x : Int32) (j : Nat) : gb_i (x &&& 65535) j = (gb_i x j && decide (j < 16)) := by rw [gb_iand, gb_65535]
theorem gb_wm (x : Int32) {j : Nat} (hj : j < 64) : gb_l (x &&& 65535).toInt64 j = (gb_i x j && decide (j < 16)) := by
  rw [gb_wide _ hj, gb_mb, gb_mb]
  rcases Nat.lt_or_ge j 32 with h | h
  · rw [if_pos h]
  · rw [if_neg (by omega)]
    simp [show ¬ j < 16 by omega]
/-! the reference's insertion and deletion, char by char -/
def gb_ins (t : Int64) (g : Nat) (x : Int32) : Int64 :=
  ((t &&& (((1 : Int64) <<< ((nI (g * 16)).toInt64 &&& 63)) - 1)) ||| (((x &&& 65535).toInt64) <<< ((nI (g * 16)).toInt64 &&& 63))) ||| ((((t.toUInt64 >>> ((nI (g * 16)).toInt64.toUInt64 &&& Int64.toUInt64 63)).toInt64) <<< ((nI (g * 16)).toInt64 &&& 63)) <<< ((16 : Int32).toInt64 &&& 63))
def gb_del (t : Int64) (g : Nat) : Int64 :=
  (t &&& (((1 : Int64) <<< ((nI (g * 16)).toInt64 &&& 63)) - 1)) ||| ((((t.toUInt64 >>> ((nI (g * 16)).toInt64.toUInt64 &&& Int64.toUInt64 63)).toInt64.toUInt64 >>> ((16 : Int32).toInt64.toUInt64 &&& Int64.toUInt64 63)).toInt64) <<< ((nI (g * 16)).toInt64 &&& 63))
theorem gb_insb (t : Int64) {g : Nat} (hg : g < 4) (x : Int32) {j : Nat} (hj : j < 64) : gb_l (gb_ins t g x) j =
    (((gb_l t j && decide (j < g * 16)) || (decide (g * 16 ≤ j) && (gb_i x (j - g * 16) && decide (j - g * 16 < 16)))) || (decide (16 ≤ j) && (decide (g * 16 ≤ j - 16) && gb_l t (g * 16 + (j - 16 - g * 16))))) := by
  unfold gb_ins
  rw [gb_or, gb_or, gb_and, gb_low g hg j hj, gb_shl _ (by omega) _ hj, gb_wm _ (by omega), gb_shl16 _ hj, gb_shl _ (by omega) _ (by omega), gb_shr _ (by omega)]
theorem gb_delb (t : Int64) {g : Nat} (hg : g < 4) {j : Nat} (hj : j < 64) : gb_l (gb_del t g) j =
    ((gb_l t j && decide (j < g * 16)) || (decide (g * 16 ≤ j) && gb_l t (g * 16 + (16 + (j - g * 16))))) := by
  unfold gb_del
  rw [gb_or, gb_and, gb_low g hg j hj, gb_shl _ (by omega) _ hj, gb_shr16, gb_shr _ (by omega)]
theorem gb_ins_lt (t : Int64) {g q : Nat} (hg : g < 4) (hq : q < g) (x : Int32) : gb_c (gb_ins t g x) q = gb_c t q := by
  apply gb_ext
  intro j _
  rw [gb_cb _ (by omega), gb_cb _ (by omega)]
  rcases Nat.lt_or_ge j 16 with h | h
  · rw [gb_insb t hg x (by omega)]
    have h1 : q * 16 + j < g * 16 := by omega
    have h2 : ¬ g * 16 ≤ q * 16 + j := by omega
    have h3 : ¬ g * 16 ≤ q * 16 + j - 16 := by omega
    simp [h1, h2, h3]
  · simp [Nat.not_lt.mpr h]
theorem gb_ins_eq (t : Int64) {g : Nat} (hg : g < 4) (x : Int32) : gb_c (gb_ins t g x) g = x &&& 65535 := by
  apply gb_ext
  intro j _
  rw [gb_cb _ hg, gb_mb]
  rcases Nat.lt_or_ge j 16 with h | h
  · rw [gb_insb t hg x (by omega)]
    have h1 : ¬ g * 16 + j < g * 16 := by omega
    have h2 : g * 16 ≤ g * 16 + j := by omega
    have h3 : ¬ (16 ≤ g * 16 + j ∧ g * 16 ≤ g * 16 + j - 16) := by omega
    have h4 : g * 16 + j - g * 16 = j := by omega
    have h5 : (decide (16 ≤ g * 16 + j) && (decide (g * 16 ≤ g * 16 + j - 16) && gb_l t (g * 16 + (g * 16 + j - 16 - g * 16)))) = false := by
      rw [← Bool.and_assoc, ← Bool.decide_and, decide_eq_false h3, Bool.false_and]
    rw [h5, h4]
    simp [h1, h2, h]
  · simp [Nat.not_lt.mpr h]
theorem gb_ins_gt (t : Int64) {g q : Nat} (hq : g ≤ q) (h4 : q + 1 < 4) (x : Int32) : gb_c (gb_ins t g x) (q + 1) = gb_c t q := by
  apply gb_ext
  intro j _
  rw [gb_cb _ (by omega), gb_cb _ (by omega)]
  rcases Nat.lt_or_ge j 16 with h | h
  · rw [gb_insb t (by omega) x (by omega)]
    have h1 : ¬ (q + 1) * 16 + j < g * 16 := by omega
    have h2 : ¬ (q + 1) * 16 + j - g * 16 < 16 := by omega
    have h3 : 16 ≤ (q + 1) * 16 + j := by omega
    have h5 : g * 16 ≤ (q + 1) * 16 + j - 16 := by omega
    have h6 : g * 16 + ((q + 1) * 16 + j - 16 - g * 16) = q * 16 + j := by omega
    rw [h6]
    simp [h1, h2, h3, h5]
  · simp [Nat.not_lt.mpr h]
theorem gb_del_lt (t : Int64) {g q : Nat} (hg : g < 4) (hq : q < g) : gb_c (gb_del t g) q = gb_c t q := by
  apply gb_ext
  intro j _
  rw [gb_cb _ (by omega), gb_cb _ (by omega)]
  rcases Nat.lt_or_ge j 16 with h | h
  · rw [gb_delb t hg (by omega)]
    have h1 : q * 16 + j < g * 16 := by omega
    have h2 : ¬ g * 16 ≤ q * 16 + j := by omega
    simp [h1, h2]
  · simp [Nat.not_lt.mpr h]
theorem gb_del_ge (t : Int64) {g q : Nat} (hq : g ≤ q) (h4 : q + 1 < 4) : gb_c (gb_del t g) q = gb_c t (q + 1) := by
  apply gb_ext
  intro j _
  rw [gb_cb _ (by omega), gb_cb _ (by omega)]
  rcases Nat.lt_or_ge j 16 with h | h
  · rw [gb_delb t (by omega) (by omega)]
    have h1 : ¬ q * 16 + j < g * 16 := by omega
    have h2 : g * 16 ≤ q * 16 + j := by omega
    have h6 : g * 16 + (16 + (q * 16 + j - g * 16)) = (q + 1) * 16 + j := by omega
    rw [h6]
    simp [h1, h2]
  · simp [Nat.not_lt.mpr h]
end
section
/-! rows of kit/rows (PURE-ROWS) -/
theorem pk_us {f : Nat → Int32} {k : Nat} {x : Int32} : upd f k x k = x := if_pos rfl
theorem pk_un {f : Nat → Int32} {k j : Nat} {x : Int32} (h : j ≠ k) : upd f k x j = f j := if_neg h
theorem pk_sub {a b : Nat} (h : b ≤ a) : nI a - nI b = nI (a - b) := by
  obtain ⟨c, rfl⟩ : ∃ c, a = c + b := ⟨a - b, by omega⟩
  rw [← nI_add, Int32.add_sub_cancel, Nat.add_sub_cancel]
theorem pk_mul (a b : Nat) : nI a * nI b = nI (a * b) := (Int32.ofNat_mul a b).symm
/-! the buffer a with the gap g .. e holds the text t: its first g chars ahead of the gap, the others behind it -/
def gb_R (t : Int64) (g e : Nat) (a : Nat → Int32) : Prop :=
  g ≤ e ∧ e ≤ 4 ∧ (∀ i, i < g → a i = gb_c t i) ∧ (∀ i, e ≤ i → i < 4 → a i = gb_c t (i - e + g))
theorem gb_R_ins {t : Int64} {g e : Nat} {a : Nat → Int32} (R : gb_R t g e a) (h : g < e) (x : Int32) :
    gb_R (gb_ins t g x) (g + 1) e (upd a (nI g).toNatClampNeg (vp_nar .char ((x.toUInt32 % 65536).toInt32))) := by
  obtain ⟨h1, h2, h3, h4⟩ := R
  rw [nI_clamp (by omega), gb_cast, gb_nar, gb_mm]
  refine ⟨by omega, h2, fun i hi => ?_, fun i hi hi4 => ?_⟩
  · rcases Nat.lt_or_ge i g with hl | hl
    · rw [pk_un (by omega), h3 i hl, gb_ins_lt t (by omega) hl]
    · have e1 : i = g := by omega
      rw [e1, pk_us, gb_ins_eq t (by omega)]
  · rw [pk_un (by omega), h4 i hi hi4]
    exact (gb_ins_gt t (q := i - e + g) (by omega) (by omega) x).symm
theorem gb_R_del {t : Int64} {g e : Nat} {a : Nat → Int32} (R : gb_R t (g + 1) e a) : gb_R (gb_del t g) g e a := by
  obtain ⟨h1, h2, h3, h4⟩ := R
  refine ⟨by omega, h2, fun i hi => ?_, fun i hi hi4 => ?_⟩
  · rw [h3 i (by omega), gb_del_lt t (by omega) hi]
  · rw [h4 i hi hi4]
    exact (gb_del_ge t (q := i - e + g) (by omega) (by omega)).symm
theorem gb_R_left {t : Int64} {g e : Nat} {a : Nat → Int32} (R : gb_R t (g + 1) (e + 1) a) :
    gb_R t g e (upd a (nI e).toNatClampNeg (vp_nar .char (a (nI g).toNatClampNeg))) := by
  obtain ⟨h1, h2, h3, h4⟩ := R
  rw [nI_clamp (by omega), nI_clamp (by omega), h3 g (by omega), gb_nar, gb_cm]
  refine ⟨by omega, by omega, fun i hi => ?_, fun i hi hi4 => ?_⟩
  · rw [pk_un (by omega), h3 i (by omega)]
  · rcases Nat.lt_or_ge e i with hl | hl
    · rw [pk_un (by omega), h4 i (by omega) hi4]
      exact congrArg (gb_c t) (by omega)
    · have e1 : i = e := by omega
      rw [e1, pk_us]
      exact congrArg (gb_c t) (by omega)
theorem gb_R_right {t : Int64} {g e : Nat} {a : Nat → Int32} (R : gb_R t g e a) (h : e < 4) :
    gb_R t (g + 1) (e + 1) (upd a (nI g).toNatClampNeg (vp_nar .char (a (nI e).toNatClampNeg))) := by
  obtain ⟨h1, h2, h3, h4⟩ := R
  rw [nI_clamp (by omega), nI_clamp (by omega), h4 e (by omega) h, gb_nar, gb_cm]
  refine ⟨by omega, by omega, fun i hi => ?_, fun i hi hi4 => ?_⟩
  · rcases Nat.lt_or_ge i g with hl | hl
    · rw [pk_un (by omega), h3 i hl]
    · have e1 : i = g := by omega
      rw [e1, pk_us]
      exact congrArg (gb_c t) (by omega)
  · rw [pk_un (by omega), h4 i (by omega) hi4]
    exact congrArg (gb_c t) (by omega)
/-! the two loops of moveTo -/
theorem gb_76 {post : Int32 → SX → Prop} {t : Int64} {p : Nat} : ∀ (n g e : Nat) (a : Nat → Int32), gb_R t g e a → g ≤ p → p ≤ g + (4 - e) → p - g < n →
    (∀ (e' : Nat) (a' : Nat → Int32), gb_R t p e' a' → p + (4 - e') = g + (4 - e) → post (nI p) (nI p, nI e', a')) → wX_moveTo_76 post (nI p) n (nI g) (nI e) a := by
  intro n
  induction n with
  | zero => intro g e a _ _ _ hn; exact absurd hn (Nat.not_lt_zero _)
  | succ n ih =>
    intro g e a R hg hp hn H
    have h1 : g ≤ e := R.1
    have h2 : e ≤ 4 := R.2.1
    by_cases h : p ≤ g
    · have e1 : g = p := by omega
      subst e1
      exact br_t (nI_le h (by omega)) (H e a R rfl)
    · exact br_f (nI_ge (by omega) (by omega)) ⟨vp_in_nI (by omega) (by omega), vp_in_nI (by omega) (by omega),
        nm_e (nm_r (nI_1 g) (nm_r (nI_1 e) (ih _ _ _ (gb_R_right R (by omega)) (by omega) (by omega) (by omega) (fun e' a' R' h' => H e' a' R' (by omega)))))⟩
theorem gb_27 {post : Int32 → SX → Prop} {t : Int64} {p : Nat} : ∀ (n g e : Nat) (a : Nat → Int32), gb_R t g e a → p ≤ g + (4 - e) → g - p < n →
    (∀ (e' : Nat) (a' : Nat → Int32), gb_R t p e' a' → p + (4 - e') = g + (4 - e) → post (nI p) (nI p, nI e', a')) → wX_moveTo_27 post (nI p) n (nI g) (nI e) a := by
  intro n
  induction n with
  | zero => intro g e a _ _ hn; exact absurd hn (Nat.not_lt_zero _)
  | succ n ih =>
    intro g e a R hp hn H
    have h1 : g ≤ e := R.1
    have h2 : e ≤ 4 := R.2.1
    by_cases h : g ≤ p
    · exact br_t (nI_le h (by omega)) ⟨p - g + 1, gb_76 _ _ _ _ R h hp (by omega) H⟩
    · obtain ⟨g, rfl⟩ : ∃ c, g = c + 1 := ⟨g - 1, by omega⟩
      obtain ⟨e, rfl⟩ : ∃ c, e = c + 1 := ⟨e - 1, by omega⟩
      exact br_f (nI_ge (by omega) (by omega)) (nm_r (nI_pred g) (nm_r (nI_pred e) ⟨vp_in_nI (by omega) (by omega), vp_in_nI (by omega) (by omega),
        nm_e (ih _ _ _ (gb_R_left R) (by omega) (by omega) (fun e' a' R' h' => H e' a' R' (by omega)))⟩))
theorem gb_mv {post : Int32 → SX → Prop} {t : Int64} {g e : Nat} {a : Nat → Int32} (p : Nat) (R : gb_R t g e a) (hp : p ≤ g + (4 - e))
    (H : ∀ (e' : Nat) (a' : Nat → Int32), gb_R t p e' a' → p + (4 - e') = g + (4 - e) → post (nI p) (nI p, nI e', a')) : ∃ n27 : Nat, wX_moveTo_27 post (nI p) n27 (nI g) (nI e) a :=
  ⟨g - p + 1, gb_27 _ _ _ _ R hp (by omega) H⟩
theorem gb_len {g e : Nat} (h : e ≤ 4) : (nI g + 4) - nI e = nI (g + (4 - e)) := by
  have e1 : nI g + 4 = nI (g + 4) := nI_add g 4
  rw [e1, pk_sub (by omega)]
  exact congrArg nI (by omega)
end
section
/-- the gap g .. e, the buffer a and the text t: the component holds g, e, a, the reference t, the length, the cursor g -/
def i_Rel (_ : Nat) (u : SX) (v : SY) : Prop := ∃ (g e : Nat) (a : Nat → Int32) (t : Int64), gb_R t g e a ∧ u = (nI g, nI e, a) ∧ v = (t, nI (g + (4 - e)), nI g)
theorem i_up {k : Nat} {u : SX} {v : SY} (h : i_Rel k u v) : i_Rel (k + 2) u v := h
theorem i_vc0 : wpX_init (fun u => wpY_init (fun v => i_Rel 0 u v)) :=
  ⟨0, 4, fun _ => 0, 0, ⟨by omega, by omega, fun i hi => absurd hi (Nat.not_lt_zero _), fun i h1 h2 => absurd h2 (by omega)⟩, rfl, rfl⟩
theorem i_vc_insert {k : Nat} {u : SX} {v : SY} (I : i_Rel k u v) (hk : k + 2 ≤ 1024) (v1 : Int32) : wpX_insert (fun r u' => wpY_insert (fun r' v' => r' = r ∧ i_Rel (k + 2) u' v') v v1) u v1 := by
  obtain ⟨g, e, a, t, R, rfl, rfl⟩ := I
  have h1 : g ≤ e := R.1
  have h2 : e ≤ 4 := R.2.1
  by_cases h : g < e
  · refine br_t (nI_lt h (by omega)) ⟨vp_in_nI (by omega) (by omega), nm_e (nm_r (nI_1 g) ?_)⟩
    refine br_t (nI_lt (b := 4) (by omega) (by decide)) (nm_r (pk_mul g 16) (nm_e (nm_e ?_)))
    refine nm_r (e' := gb_ins t g v1) (by rw [gb_cast]; rfl) ?_
    refine nm_r (e' := nI (g + 1 + (4 - e))) (by rw [nI_1]; exact congrArg nI (by omega)) (nm_r (nI_1 g) ?_)
    exact ⟨rfl, g + 1, e, _, gb_ins t g v1, gb_R_ins R h v1, rfl, rfl⟩
  · refine br_f (nI_nlt (by omega) (by omega)) ?_
    exact br_f (nI_nlt (b := 4) (by omega) (by omega)) ⟨rfl, g, e, a, t, R, rfl, rfl⟩
theorem i_vc_deleteBack {k : Nat} {u : SX} {v : SY} (I : i_Rel k u v) (hk : k + 2 ≤ 1024) : wpX_deleteBack (fun r u' => wpY_deleteBack (fun r' v' => r' = r ∧ i_Rel (k + 2) u' v') v) u := by
  obtain ⟨g, e, a, t, R, rfl, rfl⟩ := I
  have h1 : g ≤ e := R.1
  have h2 : e ≤ 4 := R.2.1
  cases g with
  | zero => exact br_f (nI_nlt (a := 0) (b := 0) (by decide) (by decide)) (br_t nI_0 ⟨rfl, 0, e, a, t, R, rfl, rfl⟩)
  | succ g =>
    refine br_t (nI_lt (a := 0) (by omega) (by omega)) (nm_r (nI_pred g) ⟨vp_in_nI (by omega) (by omega), ?_⟩)
    refine br_f (nI_ne0 (by omega) (by omega)) (nm_r (e' := nI (g * 16)) (by rw [nI_pred]; exact pk_mul g 16) ?_)
    refine nm_r (e' := gb_c t g) rfl (nm_e (nm_e (nm_r (e' := gb_del t g) rfl ?_)))
    refine nm_r (e' := nI (g + (4 - e))) (by rw [show g + 1 + (4 - e) = (g + (4 - e)) + 1 by omega]; exact nI_pred _) (nm_r (nI_pred g) ?_)
    refine ⟨?_, g, e, a, gb_del t g, gb_R_del R, rfl, rfl⟩
    rw [nI_clamp (by omega), R.2.2.1 g (by omega), gb_cm]
theorem i_vc_moveTo {k : Nat} {u : SX} {v : SY} (I : i_Rel k u v) (hk : k + 2 ≤ 1024) (v1 : Int32) : wpX_moveTo (fun r u' => wpY_moveTo (fun r' v' => r' = r ∧ i_Rel (k + 2) u' v') v v1) u v1 := by
  obtain ⟨g, e, a, t, R, rfl, rfl⟩ := I
  have h1 : g ≤ e := R.1
  have h2 : e ≤ 4 := R.2.1
  refine nm_r (gb_len h2) ?_
  by_cases h0 : 0 ≤ v1
  · refine br_t h0 ?_
    obtain ⟨j, hj, rfl⟩ := nI_of (x := v1) (Int32.not_lt.mpr h0)
    by_cases hl : j ≤ g + (4 - e)
    · have hl' : nI j ≤ nI (g + (4 - e)) := nI_le hl (by omega)
      exact br_t hl' (gb_mv j R hl fun e' a' R' h' => br_t h0 (br_t hl' ⟨rfl, j, e', a', t, R', rfl, by rw [h']⟩))
    · have hl' : ¬ nI j ≤ nI (g + (4 - e)) := nI_ge (by omega) hj
      exact br_f hl' (gb_mv (g + (4 - e)) R (Nat.le_refl _) fun e' a' R' h' => br_t h0 (br_f hl' ⟨rfl, g + (4 - e), e', a', t, R', rfl, by rw [h']⟩))
  · refine br_f h0 ?_
    exact br_t (nI_pos' (by omega)) (gb_mv 0 R (Nat.zero_le _) fun e' a' R' h' => br_f h0 ⟨rfl, 0, e', a', t, R', rfl, by rw [h', nI_0]⟩)
theorem i_vc_charAt {k : Nat} {u : SX} {v : SY} (I : i_Rel k u v) (hk : k + 2 ≤ 1024) (v1 : Int32) : wpX_charAt (fun r => wpY_charAt (fun r' => r' = r ∧ i_Rel (k + 2) u v) v v1) u v1 := by
  obtain ⟨g, e, a, t, R, rfl, rfl⟩ := I
  have h1 : g ≤ e := R.1
  have h2 : e ≤ 4 := R.2.1
  have J : i_Rel (k + 2) (nI g, nI e, a) (t, nI (g + (4 - e)), nI g) := ⟨g, e, a, t, R, rfl, rfl⟩
  refine nm_r (gb_len h2) ?_
  by_cases h0 : v1 < 0
  · exact br_t h0 (br_t h0 ⟨rfl, J⟩)
  · refine br_f h0 ?_
    obtain ⟨j, hj, rfl⟩ := nI_of h0
    by_cases hl : j < g + (4 - e)
    · have hl' : nI j < nI (g + (4 - e)) := nI_lt hl (by omega)
      have hY : (((t.toUInt64 >>> ((nI j * 16).toInt64.toUInt64 &&& Int64.toUInt64 63)).toInt64).toInt32) &&& 65535 = gb_c t j := by
        have e1 : nI j * 16 = nI (j * 16) := pk_mul j 16
        rw [e1]; rfl
      refine br_t hl' ?_
      by_cases hg : g ≤ j
      · have e1 : (nI j - nI g) + nI e = nI (j - g + e) := by rw [pk_sub hg, nI_add]
        refine br_t (nI_le hg hj) ?_
        rw [e1, nI_clamp (by omega), R.2.2.2 (j - g + e) (by omega) (by omega), gb_cm, show j - g + e - e + g = j by omega]
        exact ⟨vp_in_nI (by omega) (by omega), br_f h0 (br_t hl' ⟨hY, J⟩)⟩
      · refine br_f (nI_ge (by omega) (by omega)) ⟨vp_in_nI (by omega) (by omega), ?_⟩
        rw [nI_clamp (by omega), R.2.2.1 j (by omega), gb_cm]
        exact br_f h0 (br_t hl' ⟨hY, J⟩)
    · have hl' : ¬ nI j < nI (g + (4 - e)) := nI_nlt (by omega) hj
      exact br_f hl' (br_f h0 (br_f hl' ⟨rfl, J⟩))
end
