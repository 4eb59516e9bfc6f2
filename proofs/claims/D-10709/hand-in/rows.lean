section
/-! an Int32 by its bits; the number of ones among the lowest k bits; part-of and the like -/
def qd_b (x : Int32) (i : Nat) : Bool := x.toBitVec.getLsbD i
theorem qd_ext {x y : Int32} (h : ∀ i, i < 32 → qd_b x i = qd_b y i) : x = y := Int32.toBitVec_inj.mp (BitVec.eq_of_getLsbD_eq (fun i hi => h i hi))
theorem qd_or (x y : Int32) (i : Nat) : qd_b (x ||| y) i = (qd_b x i || qd_b y i) := by unfold qd_b; rw [Int32.toBitVec_or, BitVec.getLsbD_or]
theorem qd_and (x y : Int32) (i : Nat) : qd_b (x &&& y) i = (qd_b x i && qd_b y i) := by unfold qd_b; rw [Int32.toBitVec_and, BitVec.getLsbD_and]
theorem qd_xor (x y : Int32) (i : Nat) : qd_b (x ^^^ y) i = (qd_b x i ^^ qd_b y i) := by unfold qd_b; rw [Int32.toBitVec_xor, BitVec.getLsbD_xor]
theorem qd_m1 : ∀ i, i < 32 → qd_b (-1) i = true := by decide +kernel
theorem qd_0 (i : Nat) : qd_b 0 i = false := BitVec.getLsbD_zero
theorem qd_1 : ∀ i, i < 32 → qd_b 1 i = decide (i = 0) := by decide +kernel
theorem qd_nI (s : Nat) {i : Nat} (hi : i < 32) : qd_b (nI s) i = s.testBit i := by
  show (BitVec.ofNat 32 s).getLsbD i = s.testBit i
  rw [BitVec.getLsbD_ofNat, decide_eq_true hi, Bool.true_and]
theorem qd_sl : ∀ n, n < 32 → ((nI n &&& 31).toBitVec.smod 32).toNat = n := by decide +kernel
theorem qd_su : ∀ n, n < 32 → (((nI n).toUInt32 &&& Int32.toUInt32 31).toBitVec % 32).toNat = n := by decide +kernel
theorem qd_ushr (n : Nat) (hn : n < 32) (x : Int32) (i : Nat) : qd_b ((x.toUInt32 >>> ((nI n).toUInt32 &&& Int32.toUInt32 31)).toInt32) i = qd_b x (n + i) := by
  show (x.toUInt32 >>> ((nI n).toUInt32 &&& Int32.toUInt32 31)).toBitVec.getLsbD i = x.toUInt32.toBitVec.getLsbD (n + i)
  rw [UInt32.toBitVec_shiftRight]
  show (x.toUInt32.toBitVec >>> (((nI n).toUInt32 &&& Int32.toUInt32 31).toBitVec % 32).toNat).getLsbD i = _
  rw [qd_su n hn, BitVec.getLsbD_ushiftRight]
theorem qd_sshr (n : Nat) (hn : n < 32) (x : Int32) {i : Nat} (hi : i < 32) : qd_b (x >>> (nI n &&& 31)) i = if n + i < 32 then qd_b x (n + i) else qd_b x 31 := by
  unfold qd_b
  rw [Int32.toBitVec_shiftRight]
  show (x.toBitVec.sshiftRight ((nI n &&& 31).toBitVec.smod 32).toNat).getLsbD i = _
  rw [qd_sl n hn, BitVec.getLsbD_sshiftRight, BitVec.msb_eq_getLsbD_last]
  simp [hi]
/-- one bit, cut out of x, as a number -/
theorem qd_bit1 (y x : Int32) (k : Nat) (h : qd_b y 0 = qd_b x k) : y &&& 1 = nI (qd_b x k).toNat := by
  apply qd_ext
  intro i hi
  rw [qd_and, qd_1 i hi]
  by_cases e : i = 0
  · subst e
    rw [h, decide_eq_true rfl, Bool.and_true]
    cases qd_b x k
    · exact (qd_0 0).symm
    · exact (qd_1 0 hi).symm
  · rw [decide_eq_false e, Bool.and_false]
    cases qd_b x k
    · exact (qd_0 i).symm
    · exact ((qd_1 i hi).trans (decide_eq_false e)).symm
theorem qd_ubit (x : Int32) (k : Nat) (hk : k < 32) : ((x.toUInt32 >>> ((nI k).toUInt32 &&& Int32.toUInt32 31)).toInt32) &&& 1 = nI (qd_b x k).toNat :=
  qd_bit1 _ x k (qd_ushr k hk x 0)
theorem qd_sbit (x : Int32) (k : Nat) (hk : k < 32) : (x >>> (nI k &&& 31)) &&& 1 = nI (qd_b x k).toNat :=
  qd_bit1 _ x k ((qd_sshr k hk x (by omega)).trans (if_pos (by omega)))
/-- the number of ones among the lowest k bits -/
def qd_pc (x : Int32) : Nat → Nat
  | 0 => 0
  | k + 1 => qd_pc x k + (qd_b x k).toNat
theorem qd_pc_le (x : Int32) (k : Nat) : qd_pc x k ≤ k := by
  induction k with
  | zero => exact Nat.le_refl 0
  | succ k ih =>
    show qd_pc x k + (qd_b x k).toNat ≤ k + 1
    have := Bool.toNat_le (qd_b x k)
    omega
theorem qd_pc_io (x y : Int32) (k : Nat) : qd_pc x k + qd_pc y k = qd_pc (x &&& y) k + qd_pc (x ||| y) k := by
  induction k with
  | zero => rfl
  | succ k ih =>
    show qd_pc x k + (qd_b x k).toNat + (qd_pc y k + (qd_b y k).toNat) = qd_pc (x &&& y) k + (qd_b (x &&& y) k).toNat + (qd_pc (x ||| y) k + (qd_b (x ||| y) k).toNat)
    rw [qd_and, qd_or]
    cases qd_b x k <;> cases qd_b y k <;> simp only [Bool.and_true, Bool.and_false, Bool.or_true, Bool.or_false, Bool.toNat_true, Bool.toNat_false] <;> omega
theorem qd_pc_mono {x y : Int32} {k : Nat} (h : ∀ i, i < k → qd_b x i = true → qd_b y i = true) : qd_pc x k ≤ qd_pc y k := by
  induction k with
  | zero => exact Nat.le_refl 0
  | succ k ih =>
    show qd_pc x k + (qd_b x k).toNat ≤ qd_pc y k + (qd_b y k).toNat
    have h1 := ih (fun i hi => h i (by omega))
    have h2 := h k (by omega)
    cases e : qd_b x k
    · rw [Bool.toNat_false]
      omega
    · rw [h2 e]
      omega
theorem qd_pc_congr {x y : Int32} {k : Nat} (h : ∀ i, i < k → qd_b x i = qd_b y i) : qd_pc x k = qd_pc y k :=
  Nat.le_antisymm (qd_pc_mono (fun i hi e => (h i hi).symm.trans e)) (qd_pc_mono (fun i hi e => (h i hi).trans e))
theorem qd_pc_0 (k : Nat) : qd_pc 0 k = 0 := by
  induction k with
  | zero => rfl
  | succ k ih =>
    show qd_pc 0 k + (qd_b 0 k).toNat = 0
    rw [ih, qd_0]
    rfl
/-- x is part of y -/
def qd_sub (x y : Int32) : Prop := ∀ i, i < 32 → qd_b x i = true → qd_b y i = true
theorem qd_subI (x y : Int32) : (x &&& (y ^^^ (-1))) = 0 ↔ qd_sub x y := by
  constructor
  · intro h i hi e
    have h1 : qd_b (x &&& (y ^^^ (-1))) i = qd_b 0 i := by rw [h]
    rw [qd_and, qd_xor, qd_m1 i hi, qd_0, e] at h1
    revert h1
    cases qd_b y i
    · intro h1
      exact h1.symm
    · intro _
      rfl
  · intro h
    apply qd_ext
    intro i hi
    rw [qd_and, qd_xor, qd_m1 i hi, qd_0]
    have h1 := h i hi
    revert h1
    cases qd_b x i <;> cases qd_b y i <;> simp
/-- the number of a set of machines 0..7 among the first i sets that has c ones -/
def qd_ct (c : Nat) : Nat → Nat
  | 0 => 0
  | i + 1 => qd_ct c i + if qd_pc (nI i) 8 = c then 1 else 0
theorem qd_ct_70 : ∀ c, c < 9 → qd_ct c 256 ≤ 70 := by decide +kernel
theorem qd_ct_mono (c : Nat) {i j : Nat} (h : i ≤ j) : qd_ct c i ≤ qd_ct c j := by
  induction j with
  | zero =>
    have : i = 0 := by omega
    rw [this]
    exact Nat.le_refl _
  | succ j ih =>
    by_cases e : i = j + 1
    · rw [e]
      exact Nat.le_refl _
    · exact Nat.le_trans (ih (by omega)) (Nat.le_add_right _ _)
end
section
/-! the mathematics of sets of eight machines: no program in sight -/
/-- c of the ones of M below bit k -/
theorem qd_take (M : Int32) : ∀ k c, k ≤ 8 → c ≤ qd_pc M k → ∃ s : Nat, s < 2 ^ k ∧ qd_pc (nI s) k = c ∧ qd_sub (nI s) M := by
  intro k
  induction k with
  | zero =>
    intro c _ hc
    have hc0 : c ≤ 0 := hc
    refine ⟨0, by decide, ?_, ?_⟩
    · show 0 = c
      omega
    · intro i hi h
      rw [nI_0, qd_0] at h
      exact absurd h (by decide)
  | succ k ih =>
    intro c hk hc
    have hc' : c ≤ qd_pc M k + (qd_b M k).toNat := hc
    rcases Nat.lt_or_ge (qd_pc M k) c with h | h
    · have hb : qd_b M k = true := by
        cases e : qd_b M k
        · rw [e, Bool.toNat_false] at hc'
          omega
        · rfl
      rw [hb, Bool.toNat_true] at hc'
      obtain ⟨s, h1, h2, h3⟩ := ih (c - 1) (by omega) (by omega)
      refine ⟨s ||| 2 ^ k, ?_, ?_, ?_⟩
      · exact Nat.or_lt_two_pow (Nat.lt_of_lt_of_le h1 (Nat.pow_le_pow_right (by decide) (by omega))) (Nat.pow_lt_pow_right (by decide) (by omega))
      · show qd_pc (nI (s ||| 2 ^ k)) k + (qd_b (nI (s ||| 2 ^ k)) k).toNat = c
        have e1 : qd_pc (nI (s ||| 2 ^ k)) k = qd_pc (nI s) k := qd_pc_congr (fun i hi => by
          rw [qd_nI _ (by omega), qd_nI _ (by omega), Nat.testBit_or, Nat.testBit_two_pow_of_ne (by omega), Bool.or_false])
        have e2 : qd_b (nI (s ||| 2 ^ k)) k = true := by
          rw [qd_nI _ (by omega), Nat.testBit_or, Nat.testBit_two_pow_self, Bool.or_true]
        rw [e1, e2, h2, Bool.toNat_true]
        omega
      · intro i hi hx
        rw [qd_nI _ hi, Nat.testBit_or] at hx
        by_cases e : k = i
        · rw [← e]
          exact hb
        · rw [Nat.testBit_two_pow_of_ne e, Bool.or_false] at hx
          exact h3 i hi ((qd_nI s hi).trans hx)
    · obtain ⟨s, h1, h2, h3⟩ := ih c (by omega) h
      refine ⟨s, Nat.lt_of_lt_of_le h1 (Nat.pow_le_pow_right (by decide) (by omega)), ?_, h3⟩
      show qd_pc (nI s) k + (qd_b (nI s) k).toNat = c
      rw [qd_nI _ (by omega), Nat.testBit_lt_two_pow h1, h2, Bool.toNat_false]
      rfl
/-- two parts of M without a common machine -/
theorem qd_two {x y M : Int32} (hx : qd_sub x M) (hy : qd_sub y M) (h : x &&& y = 0) : qd_pc x 8 + qd_pc y 8 ≤ qd_pc M 8 := by
  have h1 := qd_pc_io x y 8
  rw [h, qd_pc_0] at h1
  have h2 : qd_pc (x ||| y) 8 ≤ qd_pc M 8 := qd_pc_mono (fun i hi e => by
    rw [qd_or] at e
    have a := hx i (by omega)
    have b := hy i (by omega)
    cases ex : qd_b x i
    · rw [ex, Bool.false_or] at e
      exact b e
    · exact a ex)
  omega
/-- M without s -/
theorem qd_less (M s : Int32) : ∀ k, k ≤ 32 → qd_pc M k ≤ qd_pc (M &&& (s ^^^ (-1))) k + qd_pc s k := by
  intro k
  induction k with
  | zero =>
    intro _
    exact Nat.le_refl 0
  | succ k ih =>
    intro hk
    have h1 := ih (by omega)
    show qd_pc M k + (qd_b M k).toNat ≤ qd_pc (M &&& (s ^^^ (-1))) k + (qd_b (M &&& (s ^^^ (-1))) k).toNat + (qd_pc s k + (qd_b s k).toNat)
    rw [qd_and, qd_xor, qd_m1 k (by omega)]
    cases qd_b M k <;> cases qd_b s k <;> simp only [Bool.xor_true, Bool.not_true, Bool.not_false, Bool.and_true, Bool.and_false, Bool.toNat_true, Bool.toNat_false] <;> omega
theorem qd_lessI {t M s : Int32} (h : qd_sub t (M &&& (s ^^^ (-1)))) : qd_sub t M ∧ t &&& s = 0 := by
  have hb : ∀ i, i < 32 → qd_b t i = true → qd_b M i = true ∧ qd_b s i = false := by
    intro i hi e
    have h1 := h i hi e
    rw [qd_and, qd_xor, qd_m1 i hi] at h1
    revert h1
    cases qd_b M i <;> cases qd_b s i <;> simp
  refine ⟨fun i hi e => (hb i hi e).1, ?_⟩
  apply qd_ext
  intro i hi
  rw [qd_and, qd_0]
  cases e : qd_b t i
  · rfl
  · rw [(hb i hi e).2]
    rfl
/-- a least set of the family 'at least c of M' -/
def qd_F (c : Nat) (M l : Int32) : Prop := ∃ s : Nat, s < 256 ∧ l = nI s ∧ qd_sub l M ∧ qd_pc l 8 = c
theorem qd_F_take {c : Nat} {M : Int32} (h : c ≤ qd_pc M 8) : ∃ l, qd_F c M l := by
  obtain ⟨s, h1, h2, h3⟩ := qd_take M 8 c (by omega) h
  exact ⟨nI s, s, h1, rfl, h3, h2⟩
theorem qd_F_sub {c : Nat} {M N l : Int32} (h : qd_F c M l) (hl : qd_sub l M → qd_sub l N) : qd_F c N l := by
  obtain ⟨s, h1, h2, h3, h4⟩ := h
  exact ⟨s, h1, h2, hl h3, h4⟩
theorem qd_F_le {c : Nat} {M l : Int32} (h : qd_F c M l) : c ≤ qd_pc M 8 := by
  obtain ⟨s, _, _, h3, h4⟩ := h
  rw [← h4]
  exact qd_pc_mono (fun i hi => h3 i (by omega))
theorem qd_F_0 (M : Int32) : qd_F 0 M 0 := ⟨0, by omega, nI_0.symm, fun i _ e => absurd ((qd_0 i).symm.trans e) (by decide), qd_pc_0 8⟩
theorem qd_F_0e {M l : Int32} (h : qd_F 0 M l) : l = 0 := by
  obtain ⟨s, h1, h2, _, h4⟩ := h
  subst h2
  have : ∀ s, s < 256 → qd_pc (nI s) 8 = 0 → s = 0 := by decide +kernel
  rw [this s h1 h4, nI_0]
/-- enough -/
theorem qd_en1 {c : Nat} {M o l : Int32} (h : qd_F c M l) (ho : qd_sub l o) : c ≤ qd_pc (M &&& o) 8 :=
  qd_F_le (qd_F_sub h (fun hl i hi e => by rw [qd_and, hl i hi e, ho i hi e]; rfl))
theorem qd_en2 {c : Nat} {M o : Int32} (h : c ≤ qd_pc (M &&& o) 8) : ∃ l, qd_F c M l ∧ qd_sub l o := by
  obtain ⟨l, s, h1, h2, h3, h4⟩ := qd_F_take h
  have hb : ∀ i, i < 32 → qd_b l i = true → qd_b M i = true ∧ qd_b o i = true := by
    intro i hi e
    have h5 := h3 i hi e
    rw [qd_and] at h5
    revert h5
    cases qd_b M i <;> cases qd_b o i <;> simp
  exact ⟨l, ⟨s, h1, h2, fun i hi e => (hb i hi e).1, h4⟩, fun i hi e => (hb i hi e).2⟩
/-- withstand: what meets every least set is large, and a set of that size does -/
theorem qd_wi1 {c : Nat} {M s : Int32} (h : ∀ l, qd_F c M l → ¬ l &&& s = 0) : qd_pc M 8 < qd_pc s 8 + c := by
  rcases Nat.lt_or_ge (qd_pc M 8) (qd_pc s 8 + c) with z | z
  · exact z
  · have h1 := qd_less M s 8 (by omega)
    obtain ⟨l, hl⟩ := qd_F_take (c := c) (M := M &&& (s ^^^ (-1))) (by omega)
    obtain ⟨t, _, _, h3, _⟩ := id hl
    exact absurd (qd_lessI h3).2 (h l (qd_F_sub hl (fun g => (qd_lessI g).1)))
theorem qd_wi2 {c : Nat} {M : Int32} (h0 : 0 < c) (h : c ≤ qd_pc M 8) : ∃ s : Nat, s < 256 ∧ qd_pc (nI s) 8 = qd_pc M 8 - c + 1 ∧ ∀ l, qd_F c M l → ¬ l &&& nI s = 0 := by
  obtain ⟨s, h1, h2, h3⟩ := qd_take M 8 (qd_pc M 8 - c + 1) (by omega) (by omega)
  refine ⟨s, h1, h2, fun l hl z => ?_⟩
  obtain ⟨t, _, _, h4, h5⟩ := hl
  have h6 := qd_two h4 h3 z
  omega
/-- meet -/
theorem qd_me1 {c : Nat} {M l m : Int32} (h : qd_pc M 8 < 2 * c) (hl : qd_F c M l) (hm : qd_F c M m) : ¬ l &&& m = 0 := by
  intro z
  obtain ⟨_, _, _, h4, h5⟩ := hl
  obtain ⟨_, _, _, h6, h7⟩ := hm
  have := qd_two h4 h6 z
  omega
theorem qd_me2 {c : Nat} {M : Int32} (h : 2 * c ≤ qd_pc M 8) : ∃ l m, qd_F c M l ∧ qd_F c M m ∧ l &&& m = 0 := by
  obtain ⟨m, hm⟩ := qd_F_take (c := c) (M := M) (by omega)
  obtain ⟨_, _, _, _, h5⟩ := id hm
  have h1 := qd_less M m 8 (by omega)
  obtain ⟨l, hl⟩ := qd_F_take (c := c) (M := M &&& (m ^^^ (-1))) (by omega)
  obtain ⟨_, _, _, h6, _⟩ := id hl
  exact ⟨l, m, qd_F_sub hl (fun g => (qd_lessI g).1), hm, (qd_lessI h6).2⟩
end
section
/-! the methods, each once -/
theorem qd_fill {f s : Nat → Int32} {i k : Nat} {x : Int32} (hk : k = i) (h : ∀ j, j < i → s j = f j) (hx : x = f i) : ∀ j, j < i + 1 → upd s k x j = f j := by
  intro j hj
  rw [hk]
  by_cases e : j = i
  · rw [e, pk_us, hx]
  · rw [pk_un e]
    exact h j (by omega)
theorem qd_ix (i : Nat) : (70 * (0 : Int32)) + nI i = nI i := by
  rw [show (70 * (0 : Int32)) = 0 from by decide, Int32.zero_add]
theorem qd_cl {i : Nat} (h : i < 2 ^ 31) : ((70 * (0 : Int32)) + nI i).toNatClampNeg = i := by
  rw [qd_ix]
  exact nI_clamp h
theorem qd_onesX {post : Int32 → Prop} {x : Int32} (H : post (nI (qd_pc x 8))) : wpX_ones post () x :=
  pk_loop (σ := Unit) (fun n i _ => wX_ones_4 post x n (nI (qd_pc x i)) (nI i)) (fun _ _ => True) 8 0 () (by omega) trivial
    (fun n _ _ => pk_le 8 8 (fun _ => H) (fun z => absurd z (by omega)))
    (fun n i _ hi _ hw => pk_le 8 i (fun z => absurd z (by omega)) (fun _ => nm_r (by rw [qd_ubit x i (by omega), nI_add]; rfl) (nm_r (nI_1 i) (hw () trivial))))
theorem qd_onesL {post : Int32 → Prop} {x : Int32} (H : post (nI (qd_pc x 8))) : wpL_ones post () x :=
  pk_loop (σ := Unit) (fun n i _ => wL_ones_4 post x n (nI (qd_pc x i)) (nI i)) (fun _ _ => True) 8 0 () (by omega) trivial
    (fun n _ _ => pk_le 8 8 (fun _ => H) (fun z => absurd z (by omega)))
    (fun n i _ hi _ hw => pk_le 8 i (fun z => absurd z (by omega)) (fun _ => nm_r (by rw [qd_sbit x i (by omega), nI_add]; rfl) (nm_r (nI_1 i) (hw () trivial))))
theorem qd_push {post : Int32 → St2 → Prop} {g : Nat} {oc : Int32} {a1 a2 a3 a4 : Nat → Int32} (hg : g ≤ 70)
    (H : ∀ a, (∀ j, j < g → a j = a3 j) → post 1 (1, nI g, oc, upd a1 0 (nI g), a, a3, a4)) : wpX_push post (0, nI g, oc, a1, a2, a3, a4) :=
  ⟨pk_in 0 10 (by omega), nm_r (congrArg (fun z => upd a1 z (nI g)) sb_cl0)
    (pk_loop (fun n i s => wX_push_15 post 0 (nI g) oc n (nI i) (upd a1 0 (nI g)) s a3 a4) (fun i s => ∀ j, j < i → s j = a3 j) g 0 a2 (by omega) (fun j hj => absurd hj (by omega))
      (fun n s h => pk_le g g (fun _ => nm_r (show (0 : Int32) + 1 = 1 from by decide) (H s h)) (fun z => absurd z (by omega)))
      (fun n i s hi h hw => pk_le g i (fun z => absurd z (by omega)) (fun _ => ⟨pk_in i 71 (by omega), pk_in i 700 (by omega) (qd_ix i), nm_e (nm_r (nI_1 i) (hw _ (qd_fill (qd_cl (by omega)) h (by rw [nI_clamp (by omega)]))))⟩)))⟩
/-- the least sets gathered out of the first i sets -/
def qd_I (c : Nat) (M : Int32) (i g : Nat) (a : Nat → Int32) : Prop := g ≤ qd_ct c i ∧ (∀ j, j < g → qd_F c M (a j)) ∧ ∀ t, t < i → qd_F c M (nI t) → ∃ j, j < g ∧ a j = nI t
theorem qd_I_add {c : Nat} {M : Int32} {i g k : Nat} {a : Nat → Int32} (hi : i < 256) (h : qd_I c M i g a) (hs : qd_sub (nI i) M) (hc : qd_pc (nI i) 8 = c) (hk : k = g) : qd_I c M (i + 1) (g + 1) (upd a k (nI i)) := by
  subst hk
  obtain ⟨h1, h2, h3⟩ := h
  refine ⟨?_, fun j hj => ?_, fun t ht hF => ?_⟩
  · show k + 1 ≤ qd_ct c i + if qd_pc (nI i) 8 = c then 1 else 0
    rw [if_pos hc]
    omega
  · by_cases e : j = k
    · rw [e, pk_us]
      exact ⟨i, hi, rfl, hs, hc⟩
    · rw [pk_un e]
      exact h2 j (by omega)
  · by_cases e : t = i
    · exact ⟨k, by omega, by rw [pk_us, e]⟩
    · obtain ⟨j, hj, ej⟩ := h3 t (by omega) hF
      exact ⟨j, by omega, by rw [pk_un (by omega), ej]⟩
theorem qd_I_skip {c : Nat} {M : Int32} {i g : Nat} {a : Nat → Int32} (h : qd_I c M i g a) (hn : ¬ (qd_sub (nI i) M ∧ qd_pc (nI i) 8 = c)) : qd_I c M (i + 1) g a := by
  obtain ⟨h1, h2, h3⟩ := h
  refine ⟨Nat.le_trans h1 (Nat.le_add_right _ _), h2, fun t ht hF => ?_⟩
  by_cases e : t = i
  · subst e
    obtain ⟨_, _, _, h4, h5⟩ := hF
    exact absurd ⟨h4, h5⟩ hn
  · exact h3 t (by omega) hF
theorem qd_I_lt {c : Nat} {M : Int32} {i g : Nat} {a : Nat → Int32} (hc : c < 9) (hi : i < 256) (h : qd_I c M i g a) (he : qd_pc (nI i) 8 = c) : g < 71 := by
  have h1 := qd_ct_70 c hc
  have h2 := qd_ct_mono c (show i ≤ 256 by omega)
  have h4 := h.1
  omega
theorem qd_I_end {c : Nat} {M : Int32} {g : Nat} {a : Nat → Int32} (hc : c < 9) (h : qd_I c M 256 g a) : g ≤ 70 := Nat.le_trans h.1 (qd_ct_70 c hc)
/-- one family lies on the desk: at least c of M -/
def qd_K (c : Nat) (M : Int32) (g : Nat) (a1 a2 : Nat → Int32) : Prop := g ≤ 70 ∧ a1 0 = nI g ∧ (∀ j, j < g → qd_F c M (a2 j)) ∧ ∀ l, qd_F c M l → ∃ j, j < g ∧ a2 j = l
theorem qd_K_of {c : Nat} {M : Int32} {g : Nat} {a a1 a2 : Nat → Int32} (hc : c < 9) (h : qd_I c M 256 g a) (ha : ∀ j, j < g → a2 j = a j) : qd_K c M g (upd a1 0 (nI g)) a2 := by
  refine ⟨qd_I_end hc h, pk_us, fun j hj => ?_, fun l hl => ?_⟩
  · rw [ha j hj]
    exact h.2.1 j hj
  · obtain ⟨s, h1, h2, _, _⟩ := id hl
    subst h2
    obtain ⟨j, hj, e⟩ := h.2.2 s h1 hl
    exact ⟨j, hj, (ha j hj).trans e⟩
theorem qd_atLeast {post : Int32 → St2 → Prop} {c : Nat} {M fg oc : Int32} {a1 a2 a3 a4 : Nat → Int32} (hc : c < 9)
    (H : ∀ g b1 b2 b3, qd_K c M g b1 b2 → post 1 (1, nI g, oc, b1, b2, b3, a4)) : wpX_atLeast post (0, fg, oc, a1, a2, a3, a4) (nI c) M := by
  refine br_f (nI_pos (by omega)) (br_f (nI_nlt (b := c) (a := 8) (by omega) (by decide)) (br_t (by decide) ?_))
  exact pk_loop (fun n i (s : Nat × (Nat → Int32)) => wX_atLeast_28 post (nI c) M 0 oc n (nI i) (nI s.1) a1 a2 s.2 a4) (fun i s => qd_I c M i s.1 s.2) 256 0 (0, a3) (by omega)
    ⟨Nat.le_refl 0, fun j hj => absurd hj (by omega), fun t ht => absurd ht (by omega)⟩
    (fun n s h => pk_le 256 256 (fun _ => qd_push (qd_I_end hc h) (fun a ha => H s.1 _ a s.2 (qd_K_of hc h ha))) (fun z => absurd z (by omega)))
    (fun n i s hi h hw => pk_le 256 i (fun z => absurd z (by omega)) (fun _ => ek_if (qd_subI (nI i) M)
      (fun hs => qd_onesX (pk_eq (qd_pc (nI i) 8) c
        (fun he => ⟨pk_in s.1 71 (qd_I_lt hc hi h he), nm_e (nm_r (nI_1 s.1) (nm_r (nI_1 i) (hw (s.1 + 1, upd s.2 (nI s.1).toNatClampNeg (nI i)) (qd_I_add hi h hs he (nI_clamp (by have := qd_I_lt hc hi h he; omega))))))⟩)
        (fun he => nm_r (nI_1 i) (hw s (qd_I_skip h (fun z => he z.2))))
        rfl rfl (by have := qd_pc_le (nI i) 8; omega) (by omega)))
      (fun hs => nm_r (nI_1 i) (hw s (qd_I_skip h (fun z => hs z.1))))))
theorem qd_atLeastN {post : Int32 → St2 → Prop} {x0 M d fg oc : Int32} {a1 a2 a3 a4 : Nat → Int32} (h : x0 < 0 ∨ 8 < x0) (H : post (-1) (d, fg, oc, a1, a2, a3, a4)) : wpX_atLeast post (d, fg, oc, a1, a2, a3, a4) x0 M :=
  br_c (fun _ => H) (fun h1 => br_c (fun _ => H) (fun h2 => h.elim (fun z => absurd z h1) (fun z => absurd z h2)))
/-! which family -/
theorem qd_fam0 {post : Int32 → Prop} {k d fg oc : Int32} {a1 a2 a3 a4 : Nat → Int32} (h : k < 0 ∨ d ≤ k) (H : post 0) : wpX_isFamily post (d, fg, oc, a1, a2, a3, a4) k :=
  br_c (fun _ => H) (fun h1 => br_c (fun _ => H) (fun h2 => h.elim (fun z => absurd z h1) (fun z => absurd z h2)))
theorem qd_fam1 {post : Int32 → Prop} {fg oc : Int32} {a1 a2 a3 a4 : Nat → Int32} (H : post 1) : wpX_isFamily post (1, fg, oc, a1, a2, a3, a4) 0 :=
  br_f (by decide) (br_f (by decide) H)
theorem qd_enoughN {post : Int32 → Prop} {k o d fg oc : Int32} {a1 a2 a3 a4 : Nat → Int32} (h : k < 0 ∨ d ≤ k) (H : post (-1)) : wpX_enough post (d, fg, oc, a1, a2, a3, a4) k o := by
  unfold wpX_enough
  exact qd_fam0 h (br_t rfl H)
theorem qd_withstandN {post : Int32 → Prop} {k d fg oc : Int32} {a1 a2 a3 a4 : Nat → Int32} (h : k < 0 ∨ d ≤ k) (H : post (-1)) : wpX_withstand post (d, fg, oc, a1, a2, a3, a4) k := by
  unfold wpX_withstand
  exact qd_fam0 h (br_t rfl H)
theorem qd_meetN {post : Int32 → Prop} {k l d fg oc : Int32} {a1 a2 a3 a4 : Nat → Int32} (h : k < 0 ∨ d ≤ k) (H : post (-1)) : wpX_meet post (d, fg, oc, a1, a2, a3, a4) k l := by
  unfold wpX_meet
  exact qd_fam0 h (br_t rfl H)
theorem qd_join {post : Int32 → St2 → Prop} {p d fg oc : Int32} {a1 a2 a3 a4 : Nat → Int32} (h : ¬ 2 ≤ d) (H : post (-1) (d, fg, oc, a1, a2, a3, a4)) : wpX_join post (d, fg, oc, a1, a2, a3, a4) p := br_f h H
theorem qd_sz {a1 : Nat → Int32} {g : Nat} (h : a1 0 = nI g) : a1 (0 : Int32).toNatClampNeg = nI g := by
  rw [sb_cl0]
  exact h
theorem qd_d0 : (1 : Int32) - 1 - 0 = 0 := by decide
theorem qd_enough {post : Int32 → Prop} {c g : Nat} {M o fg oc : Int32} {a1 a2 a3 a4 : Nat → Int32} (hK : qd_K c M g a1 a2)
    (H0 : (∀ j, j < g → ¬ qd_sub (a2 j) o) → post 0) (H1 : ∀ j, j < g → qd_sub (a2 j) o → post 1) : wpX_enough post (1, fg, oc, a1, a2, a3, a4) 0 o := by
  obtain ⟨hg, hz, _, _⟩ := hK
  unfold wpX_enough
  refine qd_fam1 (br_f (by decide) (nm_r qd_d0 ?_))
  exact pk_loop (σ := Unit) (fun n i _ => wX_enough_22 post o 0 1 fg oc a1 a2 a3 a4 n (nI i)) (fun i _ => ∀ j, j < i → ¬ qd_sub (a2 j) o) g 0 () (by omega) (fun j hj => absurd hj (by omega))
    (fun n _ h => ⟨pk_in 0 10 (by omega), pk_le g g (fun _ => H0 h) (fun z => absurd z (by omega)) (qd_sz hz)⟩)
    (fun n i _ hi h hw => ⟨pk_in 0 10 (by omega), pk_le g i (fun z => absurd z (by omega)) (fun _ => ⟨pk_in i 700 (by omega) (qd_ix i),
      ek_if (d := qd_sub (a2 i) o) (by rw [qd_cl (by omega)]; exact qd_subI (a2 i) o) (fun z => H1 i hi z) (fun z => nm_r (nI_1 i) (hw () (lt_s h z)))⟩) (qd_sz hz)⟩)
theorem qd_meetsAll {post : Int32 → Prop} {c g : Nat} {M s fg oc : Int32} {a1 a2 a3 a4 : Nat → Int32} (hK : qd_K c M g a1 a2)
    (H1 : (∀ j, j < g → ¬ a2 j &&& s = 0) → post 1) (H0 : ∀ j, j < g → a2 j &&& s = 0 → post 0) : wpX_meetsAll post (1, fg, oc, a1, a2, a3, a4) 0 s := by
  obtain ⟨hg, hz, _, _⟩ := hK
  exact pk_loop (σ := Unit) (fun n i _ => wX_meetsAll_2 post 0 s 1 fg oc a1 a2 a3 a4 n (nI i)) (fun i _ => ∀ j, j < i → ¬ a2 j &&& s = 0) g 0 () (by omega) (fun j hj => absurd hj (by omega))
    (fun n _ h => ⟨pk_in 0 10 (by omega), pk_le g g (fun _ => H1 h) (fun z => absurd z (by omega)) (qd_sz hz)⟩)
    (fun n i _ hi h hw => ⟨pk_in 0 10 (by omega), pk_le g i (fun z => absurd z (by omega)) (fun _ => ⟨pk_in i 700 (by omega) (qd_ix i),
      ek_if (d := a2 i &&& s = 0) (by rw [qd_cl (by omega)]) (fun z => H0 i hi z) (fun z => nm_r (nI_1 i) (hw () (lt_s h z)))⟩) (qd_sz hz)⟩)
/-- the best so far: b, among the first i sets -/
def qd_B (g : Nat) (a2 : Nat → Int32) (i b : Nat) : Prop := b ≤ 9 ∧ (b = 9 ∨ ∃ s, s < i ∧ qd_pc (nI s) 8 = b ∧ ∀ j, j < g → ¬ a2 j &&& nI s = 0) ∧ ∀ s, s < i → (∀ j, j < g → ¬ a2 j &&& nI s = 0) → b ≤ qd_pc (nI s) 8
theorem qd_B_skip {g : Nat} {a2 : Nat → Int32} {i b : Nat} (h : qd_B g a2 i b) (hn : (∀ j, j < g → ¬ a2 j &&& nI i = 0) → b ≤ qd_pc (nI i) 8) : qd_B g a2 (i + 1) b := by
  obtain ⟨h1, h2, h3⟩ := h
  refine ⟨h1, h2.imp id (fun ⟨s, hs, e⟩ => ⟨s, by omega, e⟩), fun s hs => ?_⟩
  by_cases e : s = i
  · subst e
    exact hn
  · exact h3 s (by omega)
theorem qd_B_take {g : Nat} {a2 : Nat → Int32} {i b : Nat} (h : qd_B g a2 i b) (hm : ∀ j, j < g → ¬ a2 j &&& nI i = 0) (hl : qd_pc (nI i) 8 < b) : qd_B g a2 (i + 1) (qd_pc (nI i) 8) := by
  obtain ⟨h1, h2, h3⟩ := h
  refine ⟨by omega, Or.inr ⟨i, by omega, rfl, hm⟩, fun s hs hk => ?_⟩
  by_cases e : s = i
  · rw [e]
    exact Nat.le_refl _
  · have := h3 s (by omega) hk
    omega
theorem qd_withstand {post : Int32 → Prop} {c g : Nat} {M fg oc : Int32} {a1 a2 a3 a4 : Nat → Int32} (hK : qd_K c M g a1 a2)
    (H : ∀ b, qd_B g a2 256 b → post (nI b)) : wpX_withstand post (1, fg, oc, a1, a2, a3, a4) 0 := by
  unfold wpX_withstand
  refine qd_fam1 (br_f (by decide) (nm_r qd_d0 ?_))
  refine pk_loop (fun n i b => wX_withstand_25 post 0 1 fg oc a1 a2 a3 a4 n (nI b) (nI i)) (fun i b => qd_B g a2 i b) 256 0 9 (by omega)
    ⟨Nat.le_refl 9, Or.inl rfl, fun s hs => absurd hs (by omega)⟩ (fun n b h => pk_le 256 256 (fun _ => H b h) (fun z => absurd z (by omega))) (fun n i b hi h hw => ?_)
  have hp := qd_pc_le (nI i) 8
  have hb := h.1
  exact pk_le 256 i (fun z => absurd z (by omega)) (fun _ => qd_onesX (pk_le b (qd_pc (nI i) 8)
    (fun z => nm_r (nI_1 i) (hw b (qd_B_skip h (fun _ => z))))
    (fun z => qd_meetsAll hK (fun hm => br_f (by decide) (nm_r (nI_1 i) (hw (qd_pc (nI i) 8) (qd_B_take h hm z))))
      (fun j hj e => br_t rfl (nm_r (nI_1 i) (hw b (qd_B_skip h (fun hm => absurd e (hm j hj)))))))))
theorem qd_meet {post : Int32 → Prop} {c g : Nat} {M fg oc : Int32} {a1 a2 a3 a4 : Nat → Int32} (hK : qd_K c M g a1 a2)
    (H1 : (∀ i, i < g → ∀ j, j < g → ¬ a2 i &&& a2 j = 0) → post 1) (H0 : ∀ i j, i < g → j < g → a2 i &&& a2 j = 0 → post 0) : wpX_meet post (1, fg, oc, a1, a2, a3, a4) 0 0 := by
  obtain ⟨hg, hz, _, _⟩ := hK
  unfold wpX_meet
  refine qd_fam1 (br_f (by decide) (qd_fam1 (br_f (by decide) (nm_r qd_d0 (nm_r qd_d0 ?_)))))
  exact pk_loop (σ := Unit) (fun n i _ => wX_meet_40 post 0 0 1 fg oc a1 a2 a3 a4 n (nI i)) (fun i _ => ∀ k, k < i → ∀ j, j < g → ¬ a2 k &&& a2 j = 0) g 0 () (by omega) (fun j hj => absurd hj (by omega))
    (fun n _ h => ⟨pk_in 0 10 (by omega), pk_le g g (fun _ => H1 h) (fun z => absurd z (by omega)) (qd_sz hz)⟩)
    (fun n i _ hi h hw => ⟨pk_in 0 10 (by omega), pk_le g i (fun z => absurd z (by omega)) (fun _ =>
      pk_loop (σ := Unit) (fun m j _ => wX_meet_54 post (wX_meet_40 post 0 0 1 fg oc a1 a2 a3 a4 n) 0 0 (nI i) 1 fg oc a1 a2 a3 a4 m (nI j)) (fun j _ => ∀ k, k < j → ¬ a2 i &&& a2 k = 0) g 0 () (by omega) (fun j hj => absurd hj (by omega))
        (fun m _ h2 => ⟨pk_in 0 10 (by omega), pk_le g g (fun _ => nm_r (nI_1 i) (hw () (lt_s h h2))) (fun z => absurd z (by omega)) (qd_sz hz)⟩)
        (fun m j _ hj h2 hw2 => ⟨pk_in 0 10 (by omega), pk_le g j (fun z => absurd z (by omega)) (fun _ => ⟨pk_in i 700 (by omega) (qd_ix i), pk_in j 700 (by omega) (qd_ix j),
          ek_if (d := a2 i &&& a2 j = 0) (by rw [qd_cl (by omega), qd_cl (by omega)]) (fun z => H0 i j hi hj z) (fun z => nm_r (nI_1 j) (hw2 () (lt_s h2 z)))⟩) (qd_sz hz)⟩)) (qd_sz hz)⟩)
end
section
/-! the law -/
theorem qd_201 {mc ms kc ks : Nat} {z0 z1 d fg oc : Int32} {a1 a2 a3 a4 : Nat → Int32} (hd : ¬ 2 ≤ d) (hz : z1 = z0) : wL_lawOf_201 (fun r _ => r = 1) mc ms z0 z1 kc ks d fg oc a1 a2 a3 a4 :=
  br_t hz (qd_join hd (br_t rfl rfl))
/-- no family k: -1 throughout -/
theorem qd_78 {mc ms kc ks : Nat} {x0 x1 x2 x3 x6 d fg oc : Int32} {a1 a2 a3 a4 : Nat → Int32} (hd : ¬ 2 ≤ d) (hk : x3 < 0 ∨ d ≤ x3) : wL_lawOf_78 (fun r _ => r = 1) mc ms x0 x1 x2 x3 x6 kc ks d fg oc a1 a2 a3 a4 := by
  unfold wL_lawOf_78 wL_lawOf_79
  refine qd_enoughN hk (br_t rfl ?_)
  unfold wL_lawOf_112
  refine br_t rfl (qd_withstandN hk (br_t rfl ?_))
  unfold wL_lawOf_157
  exact br_t rfl (qd_meetN hk (br_t rfl (qd_201 hd rfl)))
theorem qd_157 {mc ms kc ks c g : Nat} {M z0 z1 fg oc : Int32} {a1 a2 a3 a4 : Nat → Int32} (hc : c < 9) (hK : qd_K c M g a1 a2) (hz : z1 = z0) :
    wL_lawOf_157 (fun r _ => r = 1) mc ms (nI c) 0 (nI (qd_pc M 8)) 1 z0 z1 kc ks 1 fg oc a1 a2 a3 a4 := by
  have hn := qd_pc_le M 8
  have h2 : (2 : Int32) * nI c = nI (2 * c) := pk_mul 2 c
  have hd : ¬ (2 : Int32) ≤ 1 := by decide
  refine br_t hz (qd_meet hK (fun hm => ?_) (fun i j hi hj e => ?_))
  · have h0 : ∀ l m, qd_F c M l → qd_F c M m → ¬ l &&& m = 0 := by
      intro l m hl hm'
      obtain ⟨i, hi, rfl⟩ := hK.2.2.2 l hl
      obtain ⟨j, hj, rfl⟩ := hK.2.2.2 m hm'
      exact hm i hi j hj
    refine br_f (by decide) (pk_le c 0 (fun z => ?_) (fun z => pk_lt (qd_pc M 8) c (fun _ => qd_201 hd rfl) (fun z2 => pk_le (2 * c) (qd_pc M 8) (fun z3 => ?_) (fun _ => qd_201 hd rfl) h2)))
    · have : c = 0 := by omega
      subst this
      exact absurd (by decide) (h0 0 0 (qd_F_0 M) (qd_F_0 M))
    · obtain ⟨l, m, hl, hm', e⟩ := qd_me2 z3
      exact absurd e (h0 l m hl hm')
  · have hi' := hK.2.2.1 i hi
    have hj' := hK.2.2.1 j hj
    have hle := qd_F_le hi'
    exact br_f (by decide) (pk_le c 0 (fun z => qd_201 hd rfl) (fun z => pk_lt (qd_pc M 8) c (fun z2 => absurd z2 (by omega)) (fun _ => pk_le (2 * c) (qd_pc M 8) (fun _ => qd_201 hd rfl) (fun z3 => absurd e (qd_me1 z3 hi' hj')) h2)))
theorem qd_112 {mc ms kc ks c g : Nat} {M z0 fg oc : Int32} {a1 a2 a3 a4 : Nat → Int32} (hc : c < 9) (hK : qd_K c M g a1 a2) :
    wL_lawOf_112 (fun r _ => r = 1) mc ms (nI c) 0 (nI (qd_pc M 8)) 1 z0 z0 kc ks 1 fg oc a1 a2 a3 a4 := by
  have hn := qd_pc_le M 8
  refine br_t rfl (qd_withstand hK (fun b hb => br_f (by decide) ?_))
  obtain ⟨hb1, hb2, hb3⟩ := hb
  have hall : ∀ s : Int32, (∀ j, j < g → ¬ a2 j &&& s = 0) → ∀ l, qd_F c M l → ¬ l &&& s = 0 := by
    intro s hs l hl
    obtain ⟨j, hj, rfl⟩ := hK.2.2.2 l hl
    exact hs j hj
  refine pk_eq c 0 (fun z => qd_157 hc hK ?_) (fun z => pk_le c (qd_pc M 8) (fun z2 => qd_157 hc hK ?_) (fun z2 => qd_157 hc hK ?_))
  · subst z
    rcases hb2 with e | ⟨s, _, _, hs⟩
    · rw [e]
      rfl
    · exact absurd (by rw [Int32.zero_and]) (hall (nI s) hs 0 (qd_F_0 M))
  · obtain ⟨t, ht, e, hm⟩ := qd_wi2 (by omega) z2
    have h1 := hb3 t ht (fun j hj => hm _ (hK.2.2.1 j hj))
    have h2 : qd_pc M 8 - c + 1 ≤ b := by
      rcases hb2 with e2 | ⟨s, _, es, hs⟩
      · omega
      · have := qd_wi1 (hall (nI s) hs)
        omega
    have h3 : b = qd_pc M 8 - c + 1 := by omega
    rw [pk_sub z2, nI_1, h3]
  · have h1 := hb3 0 (by omega) (fun j hj => absurd (qd_F_le (hK.2.2.1 j hj)) (by omega))
    rw [nI_0, qd_pc_0] at h1
    have h3 : b = 0 := by omega
    rw [h3, nI_0]
theorem qd_79 {mc ms kc ks c g : Nat} {M o fg oc : Int32} {a1 a2 a3 a4 : Nat → Int32} (hc : c < 9) (hK : qd_K c M g a1 a2) :
    wL_lawOf_79 (fun r _ => r = 1) mc ms (nI c) M o 0 (nI (qd_pc M 8)) 1 kc ks 1 fg oc a1 a2 a3 a4 := by
  have hn := qd_pc_le (M &&& o) 8
  unfold wL_lawOf_79
  refine qd_enough hK (fun h => br_f (by decide) (qd_onesL (pk_lt (qd_pc (M &&& o) 8) c (fun _ => qd_112 hc hK) (fun z => ?_)))) (fun j hj h => br_f (by decide) (qd_onesL (pk_lt (qd_pc (M &&& o) 8) c (fun z => ?_) (fun _ => qd_112 hc hK))))
  · obtain ⟨l, hl, ho⟩ := qd_en2 z
    obtain ⟨j, hj, rfl⟩ := hK.2.2.2 l hl
    exact absurd ho (h j hj)
  · have := qd_en1 (hK.2.2.1 j hj) h
    omega
/-- no such number of machines -/
theorem qd_34 {mc ms kc ks : Nat} {x0 x1 x2 x3 fg oc : Int32} {a1 a2 a3 a4 : Nat → Int32} (h : x0 < 0 ∨ 8 < x0) : wL_lawOf_34 (fun r _ => r = 1) mc ms x0 x1 x2 x3 kc ks 0 fg oc a1 a2 a3 a4 := by
  unfold wL_lawOf_34 wL_lawOf_35
  refine qd_atLeastN h (br_t rfl ?_)
  unfold wL_lawOf_54
  refine br_t rfl (qd_onesL (br_t rfl (qd_78 (by decide) ?_)))
  rcases Int32.lt_or_le x3 0 with z | z
  · exact Or.inl z
  · exact Or.inr z
theorem qd_35 {mc ms kc ks c : Nat} {x1 x2 x3 fg oc : Int32} {a1 a2 a3 a4 : Nat → Int32} (hc : c < 9) : wL_lawOf_35 (fun r _ => r = 1) mc ms (nI c) x1 x2 x3 1 kc ks 0 fg oc a1 a2 a3 a4 := by
  unfold wL_lawOf_35
  refine qd_atLeast hc (fun g b1 b2 b3 hK => br_f (by decide) ?_)
  unfold wL_lawOf_54
  refine br_t rfl (qd_onesL (br_f (by decide) (br_c (fun z => ?_) (fun z => qd_78 (by decide) ?_))))
  · subst z
    exact qd_79 hc hK
  · rcases pk_ix x3 (n := 1) (by decide) with h | h | ⟨j, hj, e⟩
    · exact Or.inl h
    · exact Or.inr h
    · have : j = 0 := by omega
      rw [this, nI_0] at e
      exact absurd e z
theorem qd_lawOf (p0 p1 p2 p3 : Int32) : wpL_lawOf (fun r _ => r = 1) 440 7040 () p0 p1 p2 p3 := by
  refine ⟨by omega, by omega, 4, 852, by omega, by omega, by omega, by omega, by omega, by omega, by omega, by omega, by omega, by omega, ?_⟩
  refine br_f (by decide) (br_t rfl (br_c (fun h => qd_34 (Or.inl h)) (fun h => br_c (fun h2 => qd_34 (Or.inr h2)) (fun h2 => ?_))))
  obtain ⟨c, hc, rfl⟩ := nI_of2 (M := 8) (n := 8) (by decide) h (Int32.not_lt.mp h2)
  exact qd_35 (by omega)
theorem qd_cell {post : Int32 → Prop} {L : Nat} {xs : Nat → Int32} {p : Int32} (j : Nat) (hp : p = nI j) (hj : j < 4) (hL : L ≤ 4) (H : ∀ r, post r) : wpL_cellAt post L xs () p :=
  pk_le L j (fun _ => H 0) (fun z => ⟨pk_in j L z hp, H _⟩) rfl hp
theorem i_vc (xs : Nat → Int32) (L : Nat) (hL : L ≤ 4) : wpL_law (fun r => r = 1) L xs :=
  qd_cell 0 rfl (by omega) hL (fun r1 => qd_cell 1 rfl (by omega) hL (fun r2 => qd_cell 2 rfl (by omega) hL (fun r3 => qd_cell 3 rfl (by omega) hL (fun r4 =>
    ⟨440, 7040, by omega, by omega, qd_lawOf r1 r2 r3 r4⟩))))
end
