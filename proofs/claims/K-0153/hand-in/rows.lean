section
theorem ts_nf {x : Bool} (h : ¬ x = false) : x = true := by cases x <;> first | rfl | exact absurd rfl h
theorem ts_nt {x : Bool} (h : ¬ x = true) : x = false := by cases x <;> first | rfl | exact absurd rfl h
theorem ts_bit {w : Int64} {s : UInt64} {j : Nat} (hj : j < 64) (hs : s.toNat = j) : ((w.toUInt64 >>> s).toInt64 &&& 1) = 0 ↔ w.toBitVec.getLsbD j = false := by
  have e : (w.toUInt64 >>> s).toInt64.toBitVec = w.toBitVec >>> j := by
    apply BitVec.eq_of_toNat_eq
    show (w.toUInt64 >>> s).toNat = _
    rw [UInt64.toNat_shiftRight, hs, Nat.mod_eq_of_lt hj, BitVec.toNat_ushiftRight]
    rfl
  rw [← Int64.toBitVec_inj, Int64.toBitVec_and, e]
  show w.toBitVec >>> j &&& 1#64 = 0#64 ↔ _
  constructor
  · intro h
    have t := congrArg (fun x => x.getLsbD 0) h
    simpa using t
  · intro h
    apply BitVec.eq_of_getLsbD_eq
    intro i hi
    cases i with
    | zero => simp [h]
    | succ i => simp
theorem ts_or {w m : Int64} {j : Nat} (hj : j < 64) (hm : m.toBitVec = BitVec.twoPow 64 j) : (w ||| m) = w ↔ w.toBitVec.getLsbD j = true := by
  rw [← Int64.toBitVec_inj, Int64.toBitVec_or, hm]
  constructor
  · intro h
    have t := congrArg (fun x => x.getLsbD j) h
    simp only [BitVec.getLsbD_or, BitVec.getLsbD_twoPow] at t
    simpa [hj] using t.symm
  · intro h
    apply BitVec.eq_of_getLsbD_eq
    intro i hi
    rw [BitVec.getLsbD_or, BitVec.getLsbD_twoPow]
    by_cases e : j = i
    · subst e; rw [h, Bool.true_or]
    · simp [e]
theorem pk_sub {a b : Nat} (h : b ≤ a) : nI a - nI b = nI (a - b) := by
  obtain ⟨c, rfl⟩ : ∃ c, a = c + b := ⟨a - b, by omega⟩
  rw [← nI_add, Int32.add_sub_cancel, Nat.add_sub_cancel]
theorem wb_cu : ∀ k, k < 64 → ((nI k).toInt64.toUInt64 &&& Int64.toUInt64 63) = UInt64.ofNat k := by decide +kernel
end
section
/-- the number of set bits of m below place i -/
def fs_cnt (m : Int64) : Nat → Nat
  | 0 => 0
  | i + 1 => fs_cnt m i + (if m.toBitVec.getLsbD i = true then 1 else 0)
/-- the bit that a shift by x makes -/
def fs_b (x : Int32) : Int64 := (1 : Int64) <<< (x.toInt64 &&& 63)
/-- the bit test by a shift of the mask -/
def fs_q (m : Int64) (x : Int32) : Int64 := ((m.toUInt64 >>> (x.toInt64.toUInt64 &&& Int64.toUInt64 63)).toInt64) &&& 1
theorem fs_cnt_s0 {m : Int64} {i : Nat} (h : m.toBitVec.getLsbD i = false) : fs_cnt m (i + 1) = fs_cnt m i := by
  show fs_cnt m i + (if m.toBitVec.getLsbD i = true then 1 else 0) = fs_cnt m i
  rw [h, if_neg (by decide), Nat.add_zero]
theorem fs_cnt_s1 {m : Int64} {i : Nat} (h : m.toBitVec.getLsbD i = true) : fs_cnt m (i + 1) = fs_cnt m i + 1 := by
  show fs_cnt m i + (if m.toBitVec.getLsbD i = true then 1 else 0) = fs_cnt m i + 1
  rw [h, if_pos rfl]
theorem fs_cnt_ss {m w : Int64} {i : Nat} (h : m.toBitVec.getLsbD i = w.toBitVec.getLsbD i) : fs_cnt m (i + 1) + fs_cnt w i = fs_cnt w (i + 1) + fs_cnt m i := by
  cases e : w.toBitVec.getLsbD i
  · rw [fs_cnt_s0 e, fs_cnt_s0 (h.trans e)]; omega
  · rw [fs_cnt_s1 e, fs_cnt_s1 (h.trans e)]; omega
theorem fs_cnt0 : ∀ i, fs_cnt 0 i = 0
  | 0 => rfl
  | i + 1 => (fs_cnt_s0 (by show (0#64).getLsbD i = false; simp)).trans (fs_cnt0 i)
theorem fs_ne {m b : Int64} {j i : Nat} (hb : b.toBitVec = BitVec.twoPow 64 j) (h : j ≠ i) : (m ||| b).toBitVec.getLsbD i = m.toBitVec.getLsbD i := by
  rw [Int64.toBitVec_or, BitVec.getLsbD_or, hb, BitVec.getLsbD_twoPow]
  simp [h]
theorem fs_eq {m b : Int64} {j : Nat} (hj : j < 64) (hb : b.toBitVec = BitVec.twoPow 64 j) : (m ||| b).toBitVec.getLsbD j = true := by
  rw [Int64.toBitVec_or, BitVec.getLsbD_or, hb, BitVec.getLsbD_twoPow]
  simp [hj]
theorem fs_and {m b : Int64} {j : Nat} (hj : j < 64) (hb : b.toBitVec = BitVec.twoPow 64 j) : (m &&& b) = 0 ↔ m.toBitVec.getLsbD j = false := by
  rw [← Int64.toBitVec_inj, Int64.toBitVec_and, hb]
  show m.toBitVec &&& BitVec.twoPow 64 j = 0#64 ↔ _
  constructor
  · intro h
    have t := congrArg (fun x => x.getLsbD j) h
    simp only [BitVec.getLsbD_and, BitVec.getLsbD_twoPow] at t
    simpa [hj] using t
  · intro h
    apply BitVec.eq_of_getLsbD_eq
    intro i hi
    rw [BitVec.getLsbD_and, BitVec.getLsbD_twoPow]
    by_cases e : j = i
    · subst e; rw [h, Bool.false_and]; simp
    · simp [e]
theorem fs_lo {m b : Int64} {j : Nat} (hb : b.toBitVec = BitVec.twoPow 64 j) : ∀ i, i ≤ j → fs_cnt (m ||| b) i = fs_cnt m i
  | 0, _ => rfl
  | i + 1, h => by
    have e := fs_cnt_ss (m := m ||| b) (w := m) (fs_ne (m := m) (i := i) hb (by omega))
    have f := fs_lo (m := m) hb i (by omega)
    omega
theorem fs_hi {m b : Int64} {j : Nat} (hj : j < 64) (hb : b.toBitVec = BitVec.twoPow 64 j) (z : m.toBitVec.getLsbD j = false) : ∀ d, fs_cnt (m ||| b) (j + 1 + d) = fs_cnt m (j + 1 + d) + 1
  | 0 => by
    show fs_cnt (m ||| b) (j + 1) = fs_cnt m (j + 1) + 1
    rw [fs_cnt_s1 (fs_eq (m := m) hj hb), fs_cnt_s0 z, fs_lo hb j (Nat.le_refl j)]
  | d + 1 => by
    have e := fs_cnt_ss (m := m ||| b) (w := m) (fs_ne (m := m) (i := j + 1 + d) hb (by omega))
    have f := fs_hi hj hb z d
    show fs_cnt (m ||| b) (j + 1 + d + 1) = fs_cnt m (j + 1 + d + 1) + 1
    omega
theorem fs_tp : ∀ k, k < 64 → ((1 : Int64) <<< lN k).toBitVec = BitVec.twoPow 64 k := by decide +kernel
/-- a shift count, the two ways that it is written -/
theorem fs_amt (s : Int64) : ∃ n, n < 64 ∧ s &&& 63 = lN n ∧ (s.toUInt64 &&& Int64.toUInt64 63).toNat = n := by
  have e : (s.toUInt64 &&& Int64.toUInt64 63).toNat = s.toUInt64.toNat % 2 ^ 6 := by
    rw [UInt64.toNat_and, show (Int64.toUInt64 63).toNat = 2 ^ 6 - 1 from by decide, Nat.and_two_pow_sub_one_eq_mod]
  refine ⟨s.toUInt64.toNat % 2 ^ 6, by omega, ?_, e⟩
  rw [← Int64.toBitVec_inj, ← BitVec.toNat_inj]
  show (s.toUInt64 &&& Int64.toUInt64 63).toNat = (BitVec.ofNat 64 (s.toUInt64.toNat % 2 ^ 6)).toNat
  rw [e, BitVec.toNat_ofNat]
  omega
/-- both bit tests ask for one place -/
theorem fs_pl (x : Int32) : ∃ j, j < 64 ∧ (fs_b x).toBitVec = BitVec.twoPow 64 j ∧ ∀ m : Int64, fs_q m x = 0 ↔ m.toBitVec.getLsbD j = false := by
  obtain ⟨n, hn, e1, e2⟩ := fs_amt x.toInt64
  refine ⟨n, hn, ?_, fun m => ts_bit hn e2⟩
  show ((1 : Int64) <<< (x.toInt64 &&& 63)).toBitVec = _
  rw [e1]; exact fs_tp n hn
theorem fs_qb (m : Int64) (x : Int32) : fs_q m x = 0 ↔ m &&& fs_b x = 0 := by
  obtain ⟨j, hj, hb, hq⟩ := fs_pl x
  rw [hq m, fs_and hj hb]
theorem fs_put0 {m : Int64} {x : Int32} (z : m &&& fs_b x = 0) : fs_cnt (m ||| fs_b x) 64 = fs_cnt m 64 + 1 := by
  obtain ⟨j, hj, hb, hq⟩ := fs_pl x
  have h := fs_hi hj hb ((fs_and hj hb).mp z) (63 - j)
  have e : j + 1 + (63 - j) = 64 := by omega
  rw [e] at h
  exact h
theorem fs_put1 {m : Int64} {x : Int32} (z : ¬ m &&& fs_b x = 0) : m ||| fs_b x = m := by
  obtain ⟨j, hj, hb, hq⟩ := fs_pl x
  exact (ts_or hj hb).mpr (ts_nf fun h => z ((fs_and hj hb).mpr h))
theorem fs_qi (m : Int64) {i : Nat} (hi : i < 64) : fs_q m (nI i) = 0 ↔ m.toBitVec.getLsbD i = false := by
  refine ts_bit hi ?_
  rw [wb_cu i hi]
  show (BitVec.ofNat 64 i).toNat = i
  rw [BitVec.toNat_ofNat, Nat.mod_eq_of_lt (by omega)]
theorem fs_64 : nI 64 = 64 := by decide +kernel
end
section
/-- size of X counts the set bits -/
theorem fs_sz (s m : Int64) (post : Int32 → Prop) (hp : post (nI (fs_cnt m 64))) : ∀ d i : Nat, i + d = 64 → wX_size_4 post s m (d + 1) (nI (fs_cnt m i)) (nI i) := by
  intro d
  induction d with
  | zero =>
    intro i hi
    have hi' : i = 64 := by omega
    subst hi'
    exact br_t (Int32.le_refl _) hp
  | succ d ih =>
    intro i hi
    have h : ¬ (64 : Int32) ≤ nI i := by rw [← fs_64]; exact nI_ge (by omega) (by omega)
    have k := ih (i + 1) (by omega)
    by_cases z : m.toBitVec.getLsbD i = false
    · rw [fs_cnt_s0 z] at k
      exact br_f h (br_t ((fs_qi m (by omega)).mpr z) (nm_r (nI_1 i) k))
    · rw [fs_cnt_s1 (ts_nf z)] at k
      exact br_f h (br_f (fun q => z ((fs_qi m (by omega)).mp q)) (nm_r (nI_1 (fs_cnt m i)) (nm_r (nI_1 i) k)))
/-- the next state of the generator, the number drawn, and the place out of it -/
def fs_s (s : Int64) : Int64 := (s * 6364136223846793005) + 1442695040888963407
def fs_r (s : Int64) : Int64 := ((fs_s s).toUInt64 >>> ((33 : Int32).toInt64.toUInt64 &&& Int64.toUInt64 63)).toInt64
def fs_t (s : Int64) (x : Int32) : Int32 := (fs_r s - fs_r s / ((x + 1).toInt64) * ((x + 1).toInt64)).toInt32
theorem fs_x1 {post : Int64 → SX → Prop} {N x : Int32} {n : Nat} {s m : Int64} (h : ¬ N ≤ x) (hd : ¬ ((x + 1).toInt64) = 0) (z : fs_q m (fs_t s x) = 0) (k : wX_draw_53 post N n (x + 1) (fs_s s) (m ||| fs_b (fs_t s x))) : wX_draw_53 post N (n + 1) x s m :=
  br_f h (nm_e (nm_e ⟨hd, nm_e (br_t z (nm_e (nm_e k)))⟩))
theorem fs_x2 {post : Int64 → SX → Prop} {N x : Int32} {n : Nat} {s m : Int64} (h : ¬ N ≤ x) (hd : ¬ ((x + 1).toInt64) = 0) (z : ¬ fs_q m (fs_t s x) = 0) (k : wX_draw_53 post N n (x + 1) (fs_s s) (m ||| fs_b x)) : wX_draw_53 post N (n + 1) x s m :=
  br_f h (nm_e (nm_e ⟨hd, nm_e (br_f z (nm_e (nm_e k)))⟩))
theorem fs_y1 {post : Int64 → SY → Prop} {N x c : Int32} {n : Nat} {s m : Int64} (h : ¬ N ≤ x) (hd : ¬ ((x + 1).toInt64) = 0) (z : m &&& fs_b (fs_t s x) = 0) (k : wY_draw_47 post N n (x + 1) (fs_s s) (m ||| fs_b (fs_t s x)) (c + 1)) : wY_draw_47 post N (n + 1) x s m c :=
  br_f h (nm_e ⟨hd, nm_e (nm_e (br_t z (br_t z (nm_e (nm_e (nm_e k))))))⟩)
theorem fs_y2 {post : Int64 → SY → Prop} {N x c : Int32} {n : Nat} {s m : Int64} (h : ¬ N ≤ x) (hd : ¬ ((x + 1).toInt64) = 0) (z : ¬ m &&& fs_b (fs_t s x) = 0) (z2 : m &&& fs_b x = 0) (k : wY_draw_47 post N n (x + 1) (fs_s s) (m ||| fs_b x) (c + 1)) : wY_draw_47 post N (n + 1) x s m c :=
  br_f h (nm_e ⟨hd, nm_e (nm_e (br_f z (nm_e (br_t z2 (nm_e (nm_e (nm_e k)))))))⟩)
theorem fs_y3 {post : Int64 → SY → Prop} {N x c : Int32} {n : Nat} {s m : Int64} (h : ¬ N ≤ x) (hd : ¬ ((x + 1).toInt64) = 0) (z : ¬ m &&& fs_b (fs_t s x) = 0) (z2 : ¬ m &&& fs_b x = 0) (k : wY_draw_47 post N n (x + 1) (fs_s s) (m ||| fs_b x) c) : wY_draw_47 post N (n + 1) x s m c :=
  br_f h (nm_e ⟨hd, nm_e (nm_e (br_f z (nm_e (br_f z2 (nm_e (nm_e k))))))⟩)
/-- one outcome for both sides: the mask is the answer, Y's count is its number of set bits -/
def fs_O (X : (Int64 → SX → Prop) → Prop) (Y : (Int64 → SY → Prop) → Prop) : Prop :=
  ∃ s' m' : Int64, (∀ post : Int64 → SX → Prop, post m' (s', m') → X post) ∧ (∀ post : Int64 → SY → Prop, post m' (s', m', nI (fs_cnt m' 64)) → Y post)
theorem fs_ob {c : Prop} {X1 X2 : (Int64 → SX → Prop) → Prop} {Y1 Y2 : (Int64 → SY → Prop) → Prop} (a : c → fs_O X1 Y1) (b : ¬ c → fs_O X2 Y2) : fs_O (fun p => (c → X1 p) ∧ (¬ c → X2 p)) (fun p => (c → Y1 p) ∧ (¬ c → Y2 p)) := by
  by_cases h : c
  · obtain ⟨s', m', hX, hY⟩ := a h
    exact ⟨s', m', fun p hp => br_t h (hX p hp), fun p hp => br_t h (hY p hp)⟩
  · obtain ⟨s', m', hX, hY⟩ := b h
    exact ⟨s', m', fun p hp => br_f h (hX p hp), fun p hp => br_f h (hY p hp)⟩
theorem fs_dr {N : Nat} (hN : N ≤ 64) : ∀ d j : Nat, j + d = N → ∀ s m : Int64, fs_O (fun p => wX_draw_53 p (nI N) (d + 1) (nI j) s m) (fun p => wY_draw_47 p (nI N) (d + 1) (nI j) s m (nI (fs_cnt m 64))) := by
  intro d
  induction d with
  | zero =>
    intro j hj s m
    have hj' : j = N := by omega
    subst hj'
    exact ⟨s, m, fun p hp => br_t (Int32.le_refl _) hp, fun p hp => br_t (Int32.le_refl _) hp⟩
  | succ d ih =>
    intro j hj s m
    have h : ¬ nI N ≤ nI j := nI_ge (by omega) (by omega)
    have hd : ¬ ((nI j + 1).toInt64) = 0 := by
      rw [nI_1, nI_l (by omega)]
      intro q
      have q' : lN (j + 1) = lN 0 := q
      rw [lN_eq (by omega) (by omega)] at q'
      omega
    by_cases z : m &&& fs_b (fs_t s (nI j)) = 0
    · obtain ⟨s', m', hX, hY⟩ := ih (j + 1) (by omega) (fs_s s) (m ||| fs_b (fs_t s (nI j)))
      refine ⟨s', m', fun p hp => fs_x1 h hd ((fs_qb _ _).mpr z) ?_, fun p hp => fs_y1 h hd z ?_⟩
      · rw [nI_1 j]; exact hX p hp
      · have k := hY p hp
        rw [fs_put0 z] at k
        rw [nI_1 j, nI_1 (fs_cnt m 64)]; exact k
    · have zx : ¬ fs_q m (fs_t s (nI j)) = 0 := fun q => z ((fs_qb _ _).mp q)
      obtain ⟨s', m', hX, hY⟩ := ih (j + 1) (by omega) (fs_s s) (m ||| fs_b (nI j))
      have kX : ∀ p : Int64 → SX → Prop, p m' (s', m') → wX_draw_53 p (nI N) (d + 1 + 1) (nI j) s m := by
        intro p hp
        refine fs_x2 h hd zx ?_
        rw [nI_1 j]; exact hX p hp
      by_cases z2 : m &&& fs_b (nI j) = 0
      · refine ⟨s', m', kX, fun p hp => fs_y2 h hd z z2 ?_⟩
        have k := hY p hp
        rw [fs_put0 z2] at k
        rw [nI_1 j, nI_1 (fs_cnt m 64)]; exact k
      · refine ⟨s', m', kX, fun p hp => fs_y3 h hd z z2 ?_⟩
        have k := hY p hp
        have e : fs_cnt (m ||| fs_b (nI j)) 64 = fs_cnt m 64 := by rw [fs_put1 z2]
        rw [e] at k
        rw [nI_1 j]; exact k
theorem fs_28 {N K : Nat} (hN : N ≤ 64) (hK : K ≤ N) (s m : Int64) (c : Int32) : fs_O (fun p => wX_draw_28 p (nI N) (nI K) s m) (fun p => wY_draw_28 p (nI N) (nI K) s m c) := by
  obtain ⟨s', m', hX, hY⟩ := fs_dr hN K (N - K) (by omega) (fs_s s) 0
  rw [fs_cnt0, nI_0] at hY
  refine ⟨s', m', fun p hp => ?_, fun p hp => ?_⟩
  · exact nm_e (nm_r (pk_sub hK) ⟨K + 1, hX p hp⟩)
  · exact nm_e (nm_r (pk_sub hK) ⟨K + 1, hY p hp⟩)
theorem fs_21 {N K : Nat} (hN : N ≤ 64) (hK : K < 2 ^ 31) (s m : Int64) (c : Int32) : fs_O (fun p => wX_draw_21 p (nI N) (nI K) s m) (fun p => wY_draw_21 p (nI N) (nI K) s m c) :=
  fs_ob (fun h => fs_28 hN ((nI_leI hK (by omega)).mp h) s m c) (fun _ => fs_28 hN (Nat.le_refl N) s m c)
theorem fs_15 {N : Nat} (hN : N ≤ 64) (x : Int32) (s m : Int64) (c : Int32) : fs_O (fun p => wX_draw_15 p (nI N) x s m) (fun p => wY_draw_15 p (nI N) x s m c) := by
  refine fs_ob (fun h => ?_) (fun _ => fs_21 (K := 0) hN (by decide) s m c)
  obtain ⟨K, hK, rfl⟩ := nI_of (x := x) (Int32.not_lt.mpr h)
  exact fs_21 hN hK s m c
theorem fs_6 {N : Nat} (hN : N < 2 ^ 31) (x : Int32) (s m : Int64) (c : Int32) : fs_O (fun p => wX_draw_6 p (nI N) x s m) (fun p => wY_draw_6 p (nI N) x s m c) := by
  refine fs_ob (fun h => ?_) (fun _ => fs_15 (N := 64) (Nat.le_refl 64) x s m c)
  rw [← fs_64, nI_leI hN (by decide)] at h
  exact fs_15 h x s m c
theorem fs_draw (x y : Int32) (s m : Int64) (c : Int32) : fs_O (fun p => wpX_draw p (s, m) x y) (fun p => wpY_draw p (s, m, c) x y) := by
  refine fs_ob (c := 0 ≤ x) (X1 := fun p => wX_draw_6 p x y s m) (X2 := fun p => wX_draw_6 p 0 y s m) (Y1 := fun p => wY_draw_6 p x y s m c) (Y2 := fun p => wY_draw_6 p 0 y s m c) (fun h => ?_) (fun _ => fs_6 (N := 0) (by decide) y s m c)
  obtain ⟨N, hN, rfl⟩ := nI_of (x := x) (Int32.not_lt.mpr h)
  exact fs_6 hN y s m c
end
section
/-- one generator state, one mask; Y's count is the mask's number of set bits -/
def i_Rel (k : Nat) (u : SX) (v : SY) : Prop := ∃ s m : Int64, u = (s, m) ∧ v = (s, m, nI (fs_cnt m 64))
theorem i_up {k : Nat} {u : SX} {v : SY} (h : i_Rel k u v) : i_Rel (k + 3) u v := h
theorem i_vc0 (k0 : Int32) : wpX_init (fun u => wpY_init (fun v => i_Rel 1 u v) k0) k0 := by
  show i_Rel 1 (k0.toInt64, 0) (k0.toInt64, 0, 0)
  exact ⟨k0.toInt64, 0, rfl, by rw [fs_cnt0, nI_0]⟩
theorem i_vc_draw {k : Nat} {u : SX} {v : SY} (I : i_Rel k u v) (hk : k + 3 ≤ 1537) (v1 : Int32) (v2 : Int32) : wpX_draw (fun r u' => wpY_draw (fun r' v' => r' = r ∧ i_Rel (k + 3) u' v') v v1 v2) u v1 v2 := by
  obtain ⟨s, m, rfl, rfl⟩ := I
  obtain ⟨s', m', hX, hY⟩ := fs_draw v1 v2 s m (nI (fs_cnt m 64))
  exact hX _ (hY _ ⟨rfl, s', m', rfl, rfl⟩)
theorem i_vc_has {k : Nat} {u : SX} {v : SY} (I : i_Rel k u v) (hk : k + 3 ≤ 1537) (v1 : Int32) : wpX_has (fun r => wpY_has (fun r' => r' = r ∧ i_Rel (k + 3) u v) v v1) u v1 := by
  have J : i_Rel (k + 3) u v := I
  obtain ⟨s, m, rfl, rfl⟩ := I
  by_cases h0 : v1 < 0
  · exact br_t h0 (br_t h0 ⟨rfl, J⟩)
  · by_cases h1 : v1 ≤ 63
    · by_cases z : m &&& fs_b v1 = 0
      · exact br_f h0 (br_t h1 (br_t ((fs_qb m v1).mpr z) (br_f h0 (br_t h1 (br_t z ⟨rfl, J⟩)))))
      · exact br_f h0 (br_t h1 (br_f (fun q => z ((fs_qb m v1).mp q)) (br_f h0 (br_t h1 (br_f z ⟨rfl, J⟩)))))
    · exact br_f h0 (br_f h1 (br_f h0 (br_f h1 ⟨rfl, J⟩)))
theorem i_vc_size {k : Nat} {u : SX} {v : SY} (I : i_Rel k u v) (hk : k + 3 ≤ 1537) : wpX_size (fun r => wpY_size (fun r' => r' = r ∧ i_Rel (k + 3) u v) v) u := by
  have J : i_Rel (k + 3) u v := I
  obtain ⟨s, m, rfl, rfl⟩ := I
  exact ⟨65, fs_sz s m _ ⟨rfl, J⟩ 64 0 rfl⟩
theorem i_vc_mask {k : Nat} {u : SX} {v : SY} (I : i_Rel k u v) (hk : k + 3 ≤ 1537) : wpX_mask (fun r => wpY_mask (fun r' => r' = r ∧ i_Rel (k + 3) u v) v) u := by
  have J : i_Rel (k + 3) u v := I
  obtain ⟨s, m, rfl, rfl⟩ := I
  exact ⟨rfl, J⟩
end
