section
/-! pure rows: bits of Int32, how many of the first k bits are set -/
/-- the ones among the first k bits of s -/
def qd_pc (s : Nat) : Nat → Nat
  | 0 => 0
  | k + 1 => qd_pc s k + s / 2 ^ k % 2
theorem qd_pc_le (s k : Nat) : qd_pc s k ≤ k := by
  induction k with
  | zero => exact Nat.le_refl 0
  | succ k ih =>
    have h : s / 2 ^ k % 2 < 2 := Nat.mod_lt _ (by omega)
    show qd_pc s k + s / 2 ^ k % 2 ≤ k + 1
    omega
theorem qd_bit_le {i a : Nat} (h : i &&& a = i) (k : Nat) : i / 2 ^ k % 2 ≤ a / 2 ^ k % 2 := by
  have e : (i &&& a).testBit k = i.testBit k := by rw [h]
  rw [Nat.testBit_and, Nat.testBit_eq_decide_div_mod_eq, Nat.testBit_eq_decide_div_mod_eq] at e
  generalize i / 2 ^ k = u at e ⊢
  generalize a / 2 ^ k = v at e ⊢
  by_cases hu : u % 2 = 1
  · by_cases hv : v % 2 = 1
    · omega
    · simp [hu, hv] at e
  · omega
theorem qd_pc_eq {i a : Nat} (h : i &&& a = i) (k : Nat) : qd_pc i k ≤ qd_pc a k ∧ (qd_pc i k = qd_pc a k → ∀ j, j < k → i / 2 ^ j % 2 = a / 2 ^ j % 2) := by
  induction k with
  | zero => exact ⟨Nat.le_refl 0, fun _ j hj => absurd hj (by omega)⟩
  | succ k ih =>
    have b := qd_bit_le h k
    obtain ⟨i1, i2⟩ := ih
    show qd_pc i k + i / 2 ^ k % 2 ≤ qd_pc a k + a / 2 ^ k % 2 ∧ (qd_pc i k + i / 2 ^ k % 2 = qd_pc a k + a / 2 ^ k % 2 → _)
    refine ⟨by omega, fun e j hj => ?_⟩
    by_cases hk : j = k
    · rw [hk]
      omega
    · exact i2 (by omega) j (by omega)
theorem qd_same {i a : Nat} (hi : i < 256) (ha : a < 256) (h : i &&& a = i) (e : qd_pc i 8 = qd_pc a 8) : i = a := by
  have t := (qd_pc_eq h 8).2 e
  have h0 : i / 1 % 2 = a / 1 % 2 := t 0 (by omega)
  have h1 : i / 2 % 2 = a / 2 % 2 := t 1 (by omega)
  have h2 : i / 4 % 2 = a / 4 % 2 := t 2 (by omega)
  have h3 : i / 8 % 2 = a / 8 % 2 := t 3 (by omega)
  have h4 : i / 16 % 2 = a / 16 % 2 := t 4 (by omega)
  have h5 : i / 32 % 2 = a / 32 % 2 := t 5 (by omega)
  have h6 : i / 64 % 2 = a / 64 % 2 := t 6 (by omega)
  have h7 : i / 128 % 2 = a / 128 % 2 := t 7 (by omega)
  clear t e h
  omega
/-! Int32 by its bits -/
def qd_b (x : Int32) (i : Nat) : Bool := x.toBitVec.getLsbD i
theorem qd_ext {x y : Int32} (h : ∀ i, i < 32 → qd_b x i = qd_b y i) : x = y := Int32.toBitVec_inj.mp (BitVec.eq_of_getLsbD_eq (fun i hi => h i hi))
theorem qd_or (x y : Int32) (i : Nat) : qd_b (x ||| y) i = (qd_b x i || qd_b y i) := by unfold qd_b; rw [Int32.toBitVec_or, BitVec.getLsbD_or]
theorem qd_and (x y : Int32) (i : Nat) : qd_b (x &&& y) i = (qd_b x i && qd_b y i) := by unfold qd_b; rw [Int32.toBitVec_and, BitVec.getLsbD_and]
theorem qd_xor (x y : Int32) (i : Nat) : qd_b (x ^^^ y) i = (qd_b x i ^^ qd_b y i) := by unfold qd_b; rw [Int32.toBitVec_xor, BitVec.getLsbD_xor]
theorem qd_m1 : ∀ i, i < 32 → qd_b (-1) i = true := by decide +kernel
theorem qd_z (i : Nat) : qd_b 0 i = false := BitVec.getLsbD_zero
theorem qd_comm (x y : Int32) : x &&& y = y &&& x := qd_ext (fun i _ => by rw [qd_and, qd_and, Bool.and_comm])
/-- x without y is empty: x is part of y -/
theorem qd_sub (x y : Int32) : x &&& (y ^^^ (-1)) = 0 ↔ x &&& y = x := by
  constructor
  · intro h
    apply qd_ext
    intro i hi
    have e : qd_b (x &&& (y ^^^ (-1))) i = qd_b 0 i := by rw [h]
    rw [qd_and, qd_xor, qd_m1 i hi, qd_z] at e
    rw [qd_and]
    revert e
    cases qd_b x i <;> cases qd_b y i <;> decide
  · intro h
    apply qd_ext
    intro i hi
    have e : qd_b (x &&& y) i = qd_b x i := by rw [h]
    rw [qd_and] at e
    rw [qd_and, qd_xor, qd_m1 i hi, qd_z]
    revert e
    cases qd_b x i <;> cases qd_b y i <;> decide
theorem qd_orsub (a b s : Int32) : (a ||| b) &&& s = a ||| b ↔ s &&& a = a ∧ s &&& b = b := by
  constructor
  · intro h
    have t : ∀ i, ((qd_b a i || qd_b b i) && qd_b s i) = (qd_b a i || qd_b b i) := by
      intro i
      rw [← qd_or, ← qd_and, h]
    constructor
    · apply qd_ext
      intro i hi
      have e := t i
      rw [qd_and]
      revert e
      cases qd_b a i <;> cases qd_b b i <;> cases qd_b s i <;> decide
    · apply qd_ext
      intro i hi
      have e := t i
      rw [qd_and]
      revert e
      cases qd_b a i <;> cases qd_b b i <;> cases qd_b s i <;> decide
  · intro h
    apply qd_ext
    intro i hi
    have e1 : qd_b (s &&& a) i = qd_b a i := by rw [h.1]
    have e2 : qd_b (s &&& b) i = qd_b b i := by rw [h.2]
    rw [qd_and] at e1 e2
    rw [qd_and, qd_or]
    revert e1 e2
    cases qd_b a i <;> cases qd_b b i <;> cases qd_b s i <;> decide
theorem qd_tr {a b s : Int32} (h : a &&& b = a) (h2 : s &&& b = b) : s &&& a = a := by
  apply qd_ext
  intro i hi
  have e1 : qd_b (a &&& b) i = qd_b a i := by rw [h]
  have e2 : qd_b (s &&& b) i = qd_b b i := by rw [h2]
  rw [qd_and] at e1 e2
  rw [qd_and]
  revert e1 e2
  cases qd_b a i <;> cases qd_b b i <;> cases qd_b s i <;> decide
theorem qd_andN (a b : Nat) : nI a &&& nI b = nI (a &&& b) := by
  apply Int32.toBitVec_inj.1
  show BitVec.ofNat 32 a &&& BitVec.ofNat 32 b = BitVec.ofNat 32 (a &&& b)
  apply BitVec.eq_of_getLsbD_eq
  intro i hi
  simp [hi]
theorem qd_assoc (x y z : Int32) : x &&& y &&& z = x &&& (y &&& z) := qd_ext (fun i _ => by rw [qd_and, qd_and, qd_and, qd_and, Bool.and_assoc])
theorem qd_part {la : Int32} {a i : Nat} (h : la &&& 255 = nI a) (hi : i < 256) : nI i &&& la = nI i ↔ i &&& a = i := by
  have e1 : nI i &&& 255 = nI i := by
    rw [pk_andN (by omega) 8 (by decide), Nat.mod_eq_of_lt (by omega)]
  have e2 : nI i &&& la = nI (i &&& a) := by
    rw [← qd_andN, ← h, qd_comm la 255, ← qd_assoc, e1]
  have e3 : i &&& a ≤ i := Nat.and_le_left
  rw [e2, nI_eq (by omega) (by omega)]
theorem qd_sl : ∀ n, n < 32 → ((nI n &&& 31).toBitVec.smod 32).toNat = n := by decide +kernel
theorem qd_su : ∀ n, n < 32 → (((nI n).toUInt32 &&& Int32.toUInt32 31).toBitVec % 32).toNat = n := by decide +kernel
theorem qd_stX {s i : Nat} (hs : s < 256) (hi : i < 8) : nI (qd_pc s i) + (((nI s).toUInt32 >>> ((nI i).toUInt32 &&& Int32.toUInt32 31)).toInt32 &&& 1) = nI (qd_pc s (i + 1)) := by
  rw [pk_ushrN (by omega) (nI i) i (qd_su i (by omega)), pk_andN (Nat.lt_of_le_of_lt (Nat.div_le_self _ _) (by omega)) 1 (by decide), nI_add]
  rfl
theorem qd_stL {s i : Nat} (hs : s < 256) (hi : i < 8) : nI (qd_pc s i) + ((nI s >>> (nI i &&& 31)) &&& 1) = nI (qd_pc s (i + 1)) := by
  rw [pk_shrN (by omega) (nI i &&& 31) i (qd_sl i (by omega)), pk_andN (Nat.lt_of_le_of_lt (Nat.div_le_self _ _) (by omega)) 1 (by decide), nI_add]
  rfl
theorem qd_ix (d i : Nat) : 70 * nI d + nI i = nI (70 * d + i) := by
  rw [show (70 : Int32) = nI 70 from rfl, pk_mul, nI_add]
end
section
/-! a lemma a method -/
theorem qd_onesX {post : Int32 → Prop} {u : St0} {s : Nat} (hs : s < 256) (H : post (nI (qd_pc s 8))) : wpX_ones post u (nI s) :=
  pk_loop (σ := Unit) (fun n i _ => wX_ones_4 post (nI s) n (nI (qd_pc s i)) (nI i)) (fun _ _ => True) 8 0 () (by omega) trivial
    (fun n _ _ => pk_le 8 8 (fun _ => H) (fun z => absurd z (by omega)))
    (fun n i _ hi _ hw => pk_le 8 i (fun z => absurd z (by omega)) (fun _ => nm_r (qd_stX hs hi) (nm_r (nI_1 i) (hw () trivial))))
theorem qd_onesL {post : Int32 → Prop} {u : St0} {s : Nat} (hs : s < 256) (H : post (nI (qd_pc s 8))) : wpL_ones post u (nI s) :=
  pk_loop (σ := Unit) (fun n i _ => wL_ones_4 post (nI s) n (nI (qd_pc s i)) (nI i)) (fun _ _ => True) 8 0 () (by omega) trivial
    (fun n _ _ => pk_le 8 8 (fun _ => H) (fun z => absurd z (by omega)))
    (fun n i _ hi _ hw => pk_le 8 i (fun z => absurd z (by omega)) (fun _ => nm_r (qd_stL hs hi) (nm_r (nI_1 i) (hw () trivial))))
theorem qd_push {post : Int32 → St2 → Prop} {d g : Nat} {o : Int32} {a1 a2 a3 a4 : Nat → Int32} (hd : d < 10) (hg : g ≤ 70)
    (H : ∀ a2' : Nat → Int32, (∀ j, j < g → a2' (70 * d + j) = a3 j) → (∀ k, (k < 70 * d ∨ 70 * d + g ≤ k) → a2' k = a2 k) → post (nI (d + 1)) (nI (d + 1), nI g, o, upd a1 d (nI g), a2', a3, a4)) :
    wpX_push post (nI d, nI g, o, a1, a2, a3, a4) := by
  unfold wpX_push
  dsimp only
  refine ⟨pk_in d 10 hd, nm_r (e' := upd a1 d (nI g)) (by rw [nI_clamp (by omega)]) ?_⟩
  refine pk_loop (fun n i s => wX_push_15 post (nI d) (nI g) o n (nI i) (upd a1 d (nI g)) s a3 a4) (fun i s => (∀ j, j < i → s (70 * d + j) = a3 j) ∧ (∀ k, (k < 70 * d ∨ 70 * d + i ≤ k) → s k = a2 k)) g 0 a2 (by omega) ⟨fun j hj => absurd hj (by omega), fun k _ => rfl⟩ ?_ ?_
  · intro n s h
    exact pk_le g g (fun _ => nm_r (nI_1 d) (H s h.1 h.2)) (fun z => absurd z (by omega))
  · intro n i s hi h hw
    refine pk_le g i (fun z => absurd z (by omega)) (fun _ => ⟨pk_in i 71 (by omega), pk_in (70 * d + i) 700 (by omega) (qd_ix d i), nm_r (e' := upd s (70 * d + i) (a3 i)) (by rw [qd_ix, nI_clamp (by omega), nI_clamp (by omega)]) (nm_r (nI_1 i) (hw _ ⟨fun j hj => ?_, fun k hk => ?_⟩))⟩)
    · by_cases e : j = i
      · rw [e, pk_us]
      · rw [pk_un (by omega)]
        exact h.1 j (by omega)
    · rw [pk_un (by omega)]
      exact h.2 k (by omega)
theorem qd_atLeast {post : Int32 → St2 → Prop} {d a : Nat} {g o la : Int32} {a1 a2 a3 a4 : Nat → Int32} (hd : d < 10) (ha : a < 256) (hla : la &&& 255 = nI a)
    (H : ∀ a2' a3' : Nat → Int32, a2' (70 * d) = nI a → (∀ k, k ≠ 70 * d → a2' k = a2 k) → post (nI (d + 1)) (nI (d + 1), nI 1, o, upd a1 d (nI 1), a2', a3', a4)) :
    wpX_atLeast post (nI d, g, o, a1, a2, a3, a4) (nI (qd_pc a 8)) la := by
  have hp := qd_pc_le a 8
  unfold wpX_atLeast
  dsimp only
  refine pk_lt (qd_pc a 8) 0 (fun z => absurd z (by omega)) (fun _ => pk_lt 8 (qd_pc a 8) (fun z => absurd z (by omega)) (fun _ => pk_lt d 10 (fun _ => ?_) (fun z => absurd z (by omega))))
  refine pk_loop (fun n i s => wX_atLeast_28 post (nI (qd_pc a 8)) la (nI d) o n (nI i) (nI (if a < i then 1 else 0)) a1 a2 s a4) (fun i s => a < i → s 0 = nI a) 256 0 a3 (by omega) (fun z => absurd z (by omega)) ?_ ?_
  · intro n s h
    rw [if_pos ha]
    refine pk_le 256 256 (fun _ => ?_) (fun z => absurd z (by omega))
    refine qd_push hd (by omega) (fun a2' h1 h2 => H a2' s ?_ ?_)
    · exact (h1 0 (by omega)).trans (h ha)
    · exact fun k hk => h2 k (by omega)
  · intro n i s hi h hw
    by_cases e : i = a
    · subst e
      rw [if_neg (by omega)]
      rw [if_pos (by omega)] at hw
      exact pk_le 256 i (fun z => absurd z (by omega)) (fun _ => br_t ((qd_sub _ _).mpr ((qd_part hla hi).mpr (Nat.and_self i))) (qd_onesX hi (br_t rfl ⟨pk_in 0 71 (by omega), nm_r (e' := upd s 0 (nI i)) (by rw [nI_clamp (by omega)]) (nm_r (nI_1 0) (nm_r (nI_1 i) (hw _ (fun _ => pk_us))))⟩)))
    · have t := hw s (fun z => h (by omega))
      rw [show (if a < i + 1 then 1 else 0) = (if a < i then 1 else 0) from by
        by_cases z : a < i
        · rw [if_pos z, if_pos (by omega)]
        · rw [if_neg z, if_neg (by omega)]] at t
      have hpi := qd_pc_le i 8
      exact pk_le 256 i (fun z => absurd z (by omega)) (fun _ => br_c (fun z => qd_onesX hi (br_f (fun z2 => e (qd_same hi ha ((qd_part hla hi).mp ((qd_sub _ _).mp z)) ((nI_eq (by omega) (by omega)).mp z2))) (nm_r (nI_1 i) t))) (fun _ => nm_r (nI_1 i) t))
/-! places of the arrays, as the predicates name them -/
theorem qd_c0 : (0 : Int32).toNatClampNeg = 0 := by decide
theorem qd_c1 : (1 : Int32).toNatClampNeg = 1 := by decide
theorem qd_c00 : (70 * (0 : Int32) + 0).toNatClampNeg = 0 := by decide
theorem qd_c01 : (70 * (0 : Int32) + 1).toNatClampNeg = 1 := by decide
theorem qd_c10 : (70 * (1 : Int32) + 0).toNatClampNeg = 70 := by decide
theorem qd_i0 : vp_in (0 : Int32) 10 := pk_in 0 10 (by omega)
theorem qd_i1 : vp_in (1 : Int32) 10 := pk_in 1 10 (by omega)
theorem qd_i00 : vp_in (70 * (0 : Int32) + 0) 700 := vp_in_iff.mpr (by decide)
theorem qd_i01 : vp_in (70 * (0 : Int32) + 1) 700 := vp_in_iff.mpr (by decide)
theorem qd_i10 : vp_in (70 * (1 : Int32) + 0) 700 := vp_in_iff.mpr (by decide)
theorem qd_j0 : vp_in (0 : Int32) 71 := pk_in 0 71 (by omega)
theorem qd_j1 : vp_in (1 : Int32) 71 := pk_in 1 71 (by omega)
theorem qd_meet {post : Int32 → Prop} {g o : Int32} {a1 a2 a3 a4 : Nat → Int32} {A B : Int32} (h0 : a1 0 = 1) (h1 : a1 1 = 1) (hA : a2 0 = A) (hB : a2 70 = B)
    (H0 : A &&& B = 0 → post 0) (H1 : ¬ A &&& B = 0 → post 1) : wpX_meet post (2, g, o, a1, a2, a3, a4) 0 1 := by
  unfold wpX_meet wpX_isFamily
  dsimp only
  refine br_f (by decide) (br_f (by decide) (br_f (by decide) (br_f (by decide) (br_f (by decide) (br_f (by decide) (nm_r (e' := 1) (by decide) (nm_r (e' := 0) (by decide) ⟨2, ?_⟩)))))))
  refine ⟨qd_i1, br_f (by rw [qd_c1, h1]; decide) ⟨2, ?_⟩⟩
  refine ⟨qd_i0, br_f (by rw [qd_c0, h0]; decide) ⟨qd_i10, qd_i00, ?_⟩⟩
  rw [qd_c10, qd_c00, hA, hB, qd_comm B A]
  refine br_c H0 (fun z => nm_r (e' := 1) (by decide) ?_)
  refine ⟨qd_i0, br_t (by rw [qd_c0, h0]; decide) (nm_r (e' := 1) (by decide) ?_)⟩
  exact ⟨qd_i1, br_t (by rw [qd_c1, h1]; decide) (H1 z)⟩
theorem qd_gather0 {post : St2 → Prop} {d o x : Int32} {a1 a2 a3 a4 : Nat → Int32} (H : post (d, 1, o, a1, a2, upd a3 0 x, a4)) : wpX_gather post (d, 0, o, a1, a2, a3, a4) x := by
  unfold wpX_gather
  dsimp only
  refine ⟨1, br_t (by decide) ⟨1, br_t (by decide) ⟨qd_j0, nm_r (e' := upd a3 0 x) (by rw [qd_c0]) (nm_r (e' := 1) (by decide) H)⟩⟩⟩
theorem qd_gather1 {post : St2 → Prop} {d o x A : Int32} {a1 a2 a3 a4 : Nat → Int32} (hA : a3 0 = A)
    (H0 : A &&& x = A → post (d, 1, o, a1, a2, a3, a4))
    (H1 : ¬ A &&& x = A → A &&& x = x → ∀ a3' : Nat → Int32, a3' 0 = x → post (d, 1, o, a1, a2, a3', a4))
    (H2 : ¬ A &&& x = A → ¬ A &&& x = x → ∀ a3' : Nat → Int32, a3' 0 = A → a3' 1 = x → post (d, 2, o, a1, a2, a3', a4)) : wpX_gather post (d, 1, o, a1, a2, a3, a4) x := by
  unfold wpX_gather
  dsimp only
  refine ⟨2, br_f (by decide) ⟨qd_j0, ?_⟩⟩
  rw [qd_c0, hA]
  refine br_c (fun z => H0 ((qd_sub _ _).mp z)) (fun z => nm_r (e' := 1) (by decide) (br_t (by decide) ⟨2, br_f (by decide) ⟨qd_j0, ?_⟩⟩))
  have z' : ¬ A &&& x = A := fun t => z ((qd_sub _ _).mpr t)
  rw [qd_c0, hA]
  refine br_c (fun w => nm_r (e' := 1) (by decide) (br_t (by decide) ⟨qd_j0, nm_r (e' := upd a3 0 x) (by rw [qd_c0]) (nm_r (e' := 1) (by decide) (H1 z' ?_ _ pk_us))⟩)) (fun w => ⟨qd_j0, qd_j0, nm_e (nm_r (e' := 1) (by decide) (nm_r (e' := 1) (by decide) (br_t (by decide) ⟨qd_j1, nm_r (e' := upd (upd a3 0 A) 1 x) (by rw [qd_c1]) (nm_r (e' := 2) (by decide) (H2 z' ?_ _ ?_ pk_us))⟩)))⟩)
  · rw [qd_comm]
    exact (qd_sub _ _).mp w
  · intro t
    rw [qd_comm] at t
    exact w ((qd_sub _ _).mpr t)
  · rw [pk_un (by omega), pk_us]
end
section
/-! join, and the readers over one or two least sets -/
theorem qd_j129 {post : Int32 → St2 → Prop} {g : Nat} {o : Int32} {a1 a2 a3 a4 : Nat → Int32} (hg : g ≤ 70)
    (H : ∀ a1' a2' : Nat → Int32, a1' 0 = nI g → (∀ j, j < g → a2' j = a3 j) → post 1 (1, nI g, o, a1', a2', a3, a4)) : wX_join_129 post 2 (nI g) o a1 a2 a3 a4 := by
  unfold wX_join_129
  refine nm_r (e' := nI 0) (by decide) ?_
  refine qd_push (by omega) hg (fun a2' h1 _ => ?_)
  exact H _ a2' pk_us (fun j hj => by
    have t := h1 j hj
    rw [show 70 * 0 + j = j by omega] at t
    exact t)
theorem qd_joinA {post : Int32 → St2 → Prop} {g o A B : Int32} {a1 a2 a3 a4 : Nat → Int32} (h0 : a1 0 = 1) (h1 : a1 1 = 1) (hA : a2 0 = A) (hB : a2 70 = B)
    (H : ∀ (a1' a2' a3' : Nat → Int32), a1' 0 = 1 → a2' 0 = A ||| B → post 1 (1, 1, o, a1', a2', a3', a4)) : wpX_join post (2, g, o, a1, a2, a3, a4) 1 := by
  unfold wpX_join
  dsimp only
  refine br_t (by decide) (nm_r (e' := 0) (by decide) (nm_r (e' := 1) (by decide) ⟨2, ?_⟩))
  refine ⟨qd_i0, br_f (by rw [qd_c0, h0]; decide) (br_f (by decide) ⟨qd_i00, ?_⟩)⟩
  rw [qd_c00, hA]
  unfold wpX_gatherUnions
  dsimp only
  refine ⟨2, qd_i1, br_f (by rw [qd_c1, h1]; decide) ⟨qd_i10, ?_⟩⟩
  rw [qd_c10, hB]
  refine qd_gather0 (nm_r (e' := 1) (by decide) ⟨qd_i1, br_t (by rw [qd_c1, h1]; decide) (nm_r (e' := 1) (by decide) ?_)⟩)
  dsimp only
  refine ⟨qd_i0, br_t (by rw [qd_c0, h0]; decide) ⟨1, qd_i1, br_f (by rw [qd_c1, h1]; decide) (br_f (by decide) ?_)⟩⟩
  exact qd_j129 (g := 1) (by omega) (fun a1' a2' e1 e2 => H a1' a2' _ e1 ((e2 0 (by omega)).trans pk_us))
theorem qd_joinE {post : Int32 → St2 → Prop} {g o A B : Int32} {a1 a2 a3 a4 : Nat → Int32} (h0 : a1 0 = 1) (h1 : a1 1 = 1) (hA : a2 0 = A) (hB : a2 70 = B)
    (H1 : A &&& B = A ∨ A &&& B = B → ∀ (a1' a2' a3' : Nat → Int32), a1' 0 = 1 → a2' 0 = A &&& B → post 1 (1, 1, o, a1', a2', a3', a4))
    (H2 : ¬ A &&& B = A → ¬ A &&& B = B → ∀ (a1' a2' a3' : Nat → Int32), a1' 0 = 2 → a2' 0 = A → a2' 1 = B → post 1 (1, 2, o, a1', a2', a3', a4)) : wpX_join post (2, g, o, a1, a2, a3, a4) 0 := by
  unfold wpX_join
  dsimp only
  refine br_t (by decide) (nm_r (e' := 0) (by decide) (nm_r (e' := 1) (by decide) ⟨2, ?_⟩))
  refine ⟨qd_i0, br_f (by rw [qd_c0, h0]; decide) (br_t rfl ⟨qd_i00, ?_⟩)⟩
  rw [qd_c00, hA]
  refine qd_gather0 (nm_r (e' := 1) (by decide) ?_)
  refine ⟨qd_i0, br_t (by rw [qd_c0, h0]; decide) ⟨2, qd_i1, br_f (by rw [qd_c1, h1]; decide) (br_t rfl ⟨qd_i10, ?_⟩)⟩⟩
  rw [qd_c10, hB]
  refine qd_gather1 (A := A) pk_us (fun z => nm_r (e' := 1) (by decide) ?_) (fun z w a3' e => nm_r (e' := 1) (by decide) ?_) (fun z w a3' e e' => nm_r (e' := 1) (by decide) ?_)
  · refine ⟨qd_i1, br_t (by rw [qd_c1, h1]; decide) ?_⟩
    exact qd_j129 (g := 1) (by omega) (fun a1' a2' e1 e2 => H1 (Or.inl z) a1' a2' _ e1 (((e2 0 (by omega)).trans pk_us).trans z.symm))
  · refine ⟨qd_i1, br_t (by rw [qd_c1, h1]; decide) ?_⟩
    exact qd_j129 (g := 1) (by omega) (fun a1' a2' e1 e2 => H1 (Or.inr w) a1' a2' _ e1 (((e2 0 (by omega)).trans e).trans w.symm))
  · refine ⟨qd_i1, br_t (by rw [qd_c1, h1]; decide) ?_⟩
    exact qd_j129 (g := 2) (by omega) (fun a1' a2' e1 e2 => H2 z w a1' a2' _ e1 ((e2 0 (by omega)).trans e) ((e2 1 (by omega)).trans e'))
theorem qd_leastSets {post : Int32 → Prop} {g o c : Int32} {a1 a2 a3 a4 : Nat → Int32} (h : a1 0 = c) (H : post c) : wpX_leastSets post (1, g, o, a1, a2, a3, a4) 0 := by
  unfold wpX_leastSets wpX_isFamily
  dsimp only
  refine br_f (by decide) (br_f (by decide) (br_f (by decide) ⟨vp_in_iff.mpr (by decide), ?_⟩))
  rw [show ((1 : Int32) - 1 - 0).toNatClampNeg = 0 by decide, h]
  exact H
theorem qd_ls1 {post : Int32 → Prop} {g o X : Int32} {a1 a2 a3 a4 : Nat → Int32} (h : a1 0 = 1) (hX : a2 0 = X) (H : post X) : wpX_leastSet post (1, g, o, a1, a2, a3, a4) 0 0 := by
  unfold wpX_leastSet wpX_isFamily
  dsimp only
  refine br_f (by decide) (br_f (by decide) (br_f (by decide) (br_f (by decide) ⟨vp_in_iff.mpr (by decide), br_t (by rw [show ((1 : Int32) - 1 - 0).toNatClampNeg = 0 by decide, h]; decide) (nm_r (e' := 0) (by decide) ⟨1, ?_⟩)⟩)))
  refine ⟨qd_i0, br_f (by rw [qd_c0, h]; decide) ⟨2, ?_⟩⟩
  refine ⟨qd_i0, br_f (by rw [qd_c0, h]; decide) ⟨qd_i00, qd_i00, br_t (Int32.le_refl _) (nm_r (e' := 0) (by decide) (nm_r (e' := 1) (by decide) ?_))⟩⟩
  refine ⟨qd_i0, br_t (by rw [qd_c0, h]; decide) (br_t rfl ⟨qd_i00, ?_⟩)⟩
  rw [qd_c00, hX]
  exact H
theorem qd_ls2 {post : Int32 → Prop} {g o A B : Int32} {a1 a2 a3 a4 : Nat → Int32} (h : a1 0 = 2) (hA : a2 0 = A) (hB : a2 1 = B) (H1 : A ≤ B → post A) (H2 : ¬ A ≤ B → post B) : wpX_leastSet post (1, g, o, a1, a2, a3, a4) 0 0 := by
  unfold wpX_leastSet wpX_isFamily
  dsimp only
  refine br_f (by decide) (br_f (by decide) (br_f (by decide) (br_f (by decide) ⟨vp_in_iff.mpr (by decide), br_t (by rw [show ((1 : Int32) - 1 - 0).toNatClampNeg = 0 by decide, h]; decide) (nm_r (e' := 0) (by decide) ⟨2, ?_⟩)⟩)))
  refine ⟨qd_i0, br_f (by rw [qd_c0, h]; decide) ⟨3, ?_⟩⟩
  refine ⟨qd_i0, br_f (by rw [qd_c0, h]; decide) ⟨qd_i00, qd_i00, br_t (Int32.le_refl _) (nm_r (e' := 0) (by decide) (nm_r (e' := 1) (by decide) ?_))⟩⟩
  refine ⟨qd_i0, br_f (by rw [qd_c0, h]; decide) ⟨qd_i01, qd_i00, ?_⟩⟩
  rw [qd_c00, qd_c01, hA, hB]
  refine br_c (fun z => nm_r (e' := 0) (by decide) (nm_r (e' := 2) (by decide) ⟨qd_i0, br_t (by rw [qd_c0, h]; decide) (br_t rfl ⟨qd_i00, ?_⟩)⟩)) (fun z => nm_r (e' := 1) (by decide) (nm_r (e' := 2) (by decide) ⟨qd_i0, br_t (by rw [qd_c0, h]; decide) (br_f (by decide) (nm_r (e' := 1) (by decide) ⟨qd_i0, br_f (by rw [qd_c0, h]; decide) ⟨3, ?_⟩⟩))⟩))
  · rw [qd_c00, hA]
    exact H1 z
  · have zl : B ≤ A := by
      rw [Int32.le_iff_toInt_le] at z ⊢
      omega
    refine ⟨qd_i0, br_f (by rw [qd_c0, h]; decide) ⟨qd_i00, qd_i01, br_t (by rw [qd_c00, qd_c01, hA, hB]; exact zl) (nm_r (e' := 0) (by decide) (nm_r (e' := 1) (by decide) ?_))⟩⟩
    refine ⟨qd_i0, br_f (by rw [qd_c0, h]; decide) ⟨qd_i01, qd_i01, br_t (Int32.le_refl _) (nm_r (e' := 0) (by decide) (nm_r (e' := 2) (by decide) ?_))⟩⟩
    refine ⟨qd_i0, br_t (by rw [qd_c0, h]; decide) (br_t rfl ⟨qd_i01, ?_⟩)⟩
    rw [qd_c01, hB]
    exact H2 z
theorem qd_en1 {g o X s : Int32} {a1 a2 a3 a4 : Nat → Int32} (h : a1 0 = 1) (hX : a2 0 = X) (post : Int32 → Prop) (H1 : s &&& X = X → post 1) (H0 : ¬ s &&& X = X → post 0) : wpX_enough post (1, g, o, a1, a2, a3, a4) 0 s := by
  unfold wpX_enough wpX_isFamily
  dsimp only
  refine br_f (by decide) (br_f (by decide) (br_f (by decide) (nm_r (e' := 0) (by decide) ⟨2, ?_⟩)))
  refine ⟨qd_i0, br_f (by rw [qd_c0, h]; decide) ⟨qd_i00, ?_⟩⟩
  rw [qd_c00, hX]
  refine br_c (fun z => H1 ?_) (fun z => nm_r (e' := 1) (by decide) ⟨qd_i0, br_t (by rw [qd_c0, h]; decide) (H0 ?_)⟩)
  · rw [qd_comm]
    exact (qd_sub _ _).mp z
  · intro t
    rw [qd_comm] at t
    exact z ((qd_sub _ _).mpr t)
theorem qd_en2 {g o A B s : Int32} {a1 a2 a3 a4 : Nat → Int32} (h : a1 0 = 2) (hA : a2 0 = A) (hB : a2 1 = B) (post : Int32 → Prop) (H1 : s &&& A = A ∨ s &&& B = B → post 1) (H0 : ¬ (s &&& A = A ∨ s &&& B = B) → post 0) : wpX_enough post (1, g, o, a1, a2, a3, a4) 0 s := by
  have tA : A &&& (s ^^^ (-1)) = 0 ↔ s &&& A = A := by rw [qd_sub, qd_comm]
  have tB : B &&& (s ^^^ (-1)) = 0 ↔ s &&& B = B := by rw [qd_sub, qd_comm]
  unfold wpX_enough wpX_isFamily
  dsimp only
  refine br_f (by decide) (br_f (by decide) (br_f (by decide) (nm_r (e' := 0) (by decide) ⟨3, ?_⟩)))
  refine ⟨qd_i0, br_f (by rw [qd_c0, h]; decide) ⟨qd_i00, ?_⟩⟩
  rw [qd_c00, hA]
  refine br_c (fun z => H1 (Or.inl (tA.mp z))) (fun z => nm_r (e' := 1) (by decide) ⟨qd_i0, br_f (by rw [qd_c0, h]; decide) ⟨qd_i01, ?_⟩⟩)
  rw [qd_c01, hB]
  refine br_c (fun w => H1 (Or.inr (tB.mp w))) (fun w => nm_r (e' := 2) (by decide) ⟨qd_i0, br_t (by rw [qd_c0, h]; decide) (H0 (fun t => t.elim (fun t => z (tA.mpr t)) (fun t => w (tB.mpr t))))⟩)
end
section
/-! the law -/
theorem qd_248 {post : Int32 → St0 → Prop} {mc ms kc ks : Nat} {x3 x9 f5 f6 d g o : Int32} {a1 a2 a3 a4 : Nat → Int32} {c p5 p6 : Prop}
    (EN : ∀ p : Int32 → Prop, (c → p 1) → (¬ c → p 0) → wpX_enough p (d, g, o, a1, a2, a3, a4) 0 x3)
    (h0 : x9 = 0 → (c ↔ (p5 ∨ p6))) (h1 : ¬ x9 = 0 → (c ↔ (p5 ∧ p6))) (h5 : f5 = 0 ↔ ¬ p5) (h6 : f6 = 0 ↔ ¬ p6) (P : post 1 ()) :
    wL_lawOf_248 post mc ms x3 x9 f5 f6 kc ks d g o a1 a2 a3 a4 := by
  have n5 : ¬ f5 = 0 → p5 := fun z => Classical.byContradiction (fun t => z (h5.mpr t))
  have n6 : ¬ f6 = 0 → p6 := fun z => Classical.byContradiction (fun t => z (h6.mpr t))
  have Q1 : wL_lawOf_285 post mc ms 1 kc ks := br_t rfl P
  have Q0 : wL_lawOf_289 post mc ms 0 kc ks := br_t rfl P
  unfold wL_lawOf_248
  refine EN _ (fun z => ?_) (fun z => ?_)
  · refine ⟨fun e9 => ⟨fun e5 => ⟨fun e6 => ?_, fun _ => Q1⟩, fun _ => Q1⟩, fun n9 => ⟨fun e5 => ?_, fun _ => ⟨fun e6 => ?_, fun _ => Q1⟩⟩⟩
    · exact absurd ((h0 e9).mp z) (fun t => t.elim (h5.mp e5) (h6.mp e6))
    · exact absurd ((h1 n9).mp z).1 (h5.mp e5)
    · exact absurd ((h1 n9).mp z).2 (h6.mp e6)
  · refine ⟨fun e9 => ⟨fun e5 => ⟨fun _ => Q0, fun e6 => ?_⟩, fun e5 => ?_⟩, fun n9 => ⟨fun _ => Q0, fun e5 => ⟨fun _ => Q0, fun e6 => ?_⟩⟩⟩
    · exact absurd ((h0 e9).mpr (Or.inr (n6 e6))) z
    · exact absurd ((h0 e9).mpr (Or.inl (n5 e5))) z
    · exact absurd ((h1 n9).mpr ⟨n5 e5, n6 e6⟩) z
theorem qd_213 {post : Int32 → St0 → Prop} {mc ms kc ks : Nat} {x3 x5 x6 x9 v d g o : Int32} {a1 a2 a3 a4 : Nat → Int32} {c : Prop}
    (EN : ∀ p : Int32 → Prop, (c → p 1) → (¬ c → p 0) → wpX_enough p (d, g, o, a1, a2, a3, a4) 0 x3)
    (h0 : x9 = 0 → (c ↔ (x3 &&& x5 = x5 ∨ x3 &&& x6 = x6))) (h1 : ¬ x9 = 0 → (c ↔ (x3 &&& x5 = x5 ∧ x3 &&& x6 = x6))) (P : post 1 ()) :
    wL_lawOf_213 post mc ms x3 x5 x6 x9 v v kc ks d g o a1 a2 a3 a4 := by
  have t : ∀ {q : Prop}, q → ((1 : Int32) = 0 ↔ ¬ q) := fun h => ⟨fun z => absurd z (by decide), fun z => absurd h z⟩
  have f : ∀ {q : Prop}, ¬ q → ((0 : Int32) = 0 ↔ ¬ q) := fun h => ⟨fun _ => h, fun _ => rfl⟩
  unfold wL_lawOf_213 wL_lawOf_232
  exact br_t rfl (br_c (fun z => br_c (fun w => qd_248 EN h0 h1 (t z) (t w) P) (fun w => qd_248 EN h0 h1 (t z) (f w) P)) (fun z => br_c (fun w => qd_248 EN h0 h1 (f z) (t w) P) (fun w => qd_248 EN h0 h1 (f z) (f w) P)))
/-- one least set X -/
theorem qd_one {post : Int32 → St0 → Prop} {mc ms kc ks : Nat} {x3 x5 x6 x9 f g o X : Int32} {a1 a2 a3 a4 : Nat → Int32} (e1 : a1 0 = 1) (e2 : a2 0 = X)
    (h0 : x9 = 0 → ¬ f = 0 ∧ X = x5 &&& x6 ∧ (x5 &&& x6 = x5 ∨ x5 &&& x6 = x6)) (h1 : ¬ x9 = 0 → X = x5 ||| x6) (P : post 1 ()) :
    wL_lawOf_134 post mc ms x3 x5 x6 x9 f kc ks 1 g o a1 a2 a3 a4 := by
  have c0 : x9 = 0 → (x3 &&& X = X ↔ (x3 &&& x5 = x5 ∨ x3 &&& x6 = x6)) := by
    intro e9
    obtain ⟨_, eX, ho⟩ := h0 e9
    rw [eX]
    rcases ho with ho | ho
    · rw [ho]
      exact ⟨Or.inl, fun z => z.elim id (fun z => qd_tr ho z)⟩
    · rw [ho]
      rw [qd_comm] at ho
      exact ⟨Or.inr, fun z => z.elim (fun z => qd_tr ho z) id⟩
  have c1 : ¬ x9 = 0 → (x3 &&& X = X ↔ (x3 &&& x5 = x5 ∧ x3 &&& x6 = x6)) := by
    intro n9
    rw [h1 n9, qd_comm x3, qd_orsub]
  have T : ∀ z, wL_lawOf_176 post mc ms x3 x5 x6 x9 f z kc ks 1 g o a1 a2 a3 a4 := by
    intro z
    unfold wL_lawOf_176
    refine qd_ls1 e1 e2 ⟨fun e9 => ⟨fun ef => absurd ef (h0 e9).1, fun _ => ?_⟩, fun n9 => ?_⟩
    · rw [← (h0 e9).2.1]
      exact qd_213 (qd_en1 e1 e2) c0 c1 P
    · rw [← h1 n9]
      exact qd_213 (qd_en1 e1 e2) c0 c1 P
  have T2 : wL_lawOf_152 post mc ms x3 x5 x6 x9 f 1 kc ks 1 g o a1 a2 a3 a4 := by
    unfold wL_lawOf_152 wL_lawOf_157
    exact br_t rfl (br_c (fun _ => T _) (fun _ => T _))
  unfold wL_lawOf_134
  exact qd_leastSets e1 ⟨fun e9 => ⟨fun ef => absurd ef (h0 e9).1, fun _ => T2⟩, fun _ => T2⟩
/-- two least sets, at least one asked -/
theorem qd_two {post : Int32 → St0 → Prop} {mc ms kc ks : Nat} {x3 x5 x6 g o : Int32} {a1 a2 a3 a4 : Nat → Int32} (e1 : a1 0 = 2) (e2 : a2 0 = x5) (e3 : a2 1 = x6)
    (hn : ¬ x5 = x6) (P : post 1 ()) :
    wL_lawOf_134 post mc ms x3 x5 x6 0 0 kc ks 1 g o a1 a2 a3 a4 := by
  have E : ∀ v, wL_lawOf_213 post mc ms x3 x5 x6 0 v v kc ks 1 g o a1 a2 a3 a4 := fun v => qd_213 (qd_en2 e1 e2 e3) (fun _ => Iff.rfl) (fun z => absurd rfl z) P
  unfold wL_lawOf_134
  refine qd_leastSets e1 (br_t rfl (br_t rfl ?_))
  unfold wL_lawOf_157
  refine br_t rfl (br_c (fun z => ?_) (fun z => ?_))
  · unfold wL_lawOf_176
    refine qd_ls2 e1 e2 e3 (fun w => ?_) (fun w => br_t rfl (br_t rfl (E _)))
    exact absurd (Int32.le_antisymm w z) hn
  · unfold wL_lawOf_176
    refine qd_ls2 e1 e2 e3 (fun w => br_t rfl (br_t rfl (E _))) (fun w => ?_)
    refine absurd ?_ z
    rw [Int32.le_iff_toInt_le] at w ⊢
    omega
theorem qd_93 {post : Int32 → St0 → Prop} {mc ms kc ks : Nat} {x3 x5 x6 x9 v g o : Int32} {a1 a2 a3 a4 : Nat → Int32} (e0 : a1 0 = 1) (e1 : a1 1 = 1) (hA : a2 0 = x5) (hB : a2 70 = x6) (h9 : x9 = 0 ∨ x9 = 1) (P : post 1 ()) :
    wL_lawOf_93 post mc ms x3 x5 x6 x9 v v kc ks 2 g o a1 a2 a3 a4 := by
  unfold wL_lawOf_93
  refine br_t rfl ?_
  rcases h9 with h9 | h9
  · subst h9
    refine qd_joinE e0 e1 hA hB (fun ho a1' a2' a3' s1 s2 => br_t rfl ?_) (fun n1 n2 a1' a2' a3' s1 s2 s3 => br_t rfl (br_f n1 (br_f n2 (qd_two s1 s2 s3 ?_ P))))
    · have T : wL_lawOf_129 post mc ms x3 x5 x6 0 kc ks 1 1 o a1' a2' a3' a4 := by
        unfold wL_lawOf_129
        exact qd_one s1 s2 (fun _ => ⟨by decide, rfl, ho⟩) (fun z => absurd rfl z) P
      exact ⟨fun _ => T, fun n1 => ⟨fun _ => T, fun n2 => absurd ho (fun t => t.elim n1 n2)⟩⟩
    · intro e
      apply n1
      rw [← e]
      exact qd_ext (fun i _ => by rw [qd_and, Bool.and_self])
  · subst h9
    refine qd_joinA e0 e1 hA hB (fun a1' a2' a3' s1 s2 => br_t rfl ?_)
    have T : ∀ f, wL_lawOf_134 post mc ms x3 x5 x6 1 f kc ks 1 1 o a1' a2' a3' a4 := fun f => qd_one s1 s2 (fun z => absurd z (by decide)) (fun _ => rfl) P
    exact br_c (fun _ => T 1) (fun _ => br_c (fun _ => T 1) (fun _ => T 0))
theorem qd_71 {post : Int32 → St0 → Prop} {mc ms kc ks : Nat} {x3 x5 x6 x9 g o : Int32} {a1 a2 a3 a4 : Nat → Int32} (e0 : a1 0 = 1) (e1 : a1 1 = 1) (hA : a2 0 = x5) (hB : a2 70 = x6) (h9 : x9 = 0 ∨ x9 = 1) (P : post 1 ()) :
    wL_lawOf_71 post mc ms x3 x5 x6 x9 kc ks 2 g o a1 a2 a3 a4 := by
  unfold wL_lawOf_71
  exact qd_meet e0 e1 hA hB (fun z => br_t z (qd_93 e0 e1 hA hB h9 P)) (fun z => br_f z (qd_93 e0 e1 hA hB h9 P))
theorem qd_lawOf {post : Int32 → St0 → Prop} {mc ms : Nat} (u : St0) (p0 p1 p2 p3 : Int32) (hc : 5 ≤ mc) (hs : 859 ≤ ms) (P : post 1 ()) : wpL_lawOf post mc ms u p0 p1 p2 p3 := by
  obtain ⟨a, ha, ea⟩ := pk_andE p0 (m := 255) 8 (by decide)
  obtain ⟨b, hb, eb⟩ := pk_andE p1 (m := 255) 8 (by decide)
  unfold wpL_lawOf wpX_init
  dsimp only
  refine ⟨by omega, by omega, 4, 852, by omega, by omega, by omega, by omega, by omega, by omega, by omega, by omega, by omega, by omega, ?_⟩
  refine nm_r ea (nm_r eb (qd_onesL ha (qd_onesL hb ?_)))
  refine qd_atLeast (d := 0) (by omega) ha ea (fun a2 a3 h1 _ => ?_)
  refine qd_atLeast (d := 1) (by omega) hb eb (fun b2 b3 h2 h3 => ?_)
  have k0 : b2 0 = nI a := (h3 0 (by omega)).trans h1
  have k1 : b2 70 = nI b := h2
  have s0 : upd (upd (fun _ => 0) 0 (nI 1)) 1 (nI 1) 0 = 1 := (pk_un (by omega)).trans pk_us
  have s1 : upd (upd (fun _ => 0) 0 (nI 1)) 1 (nI 1) 1 = 1 := pk_us
  exact br_t rfl (br_c (fun _ => qd_71 s0 s1 k0 k1 (Or.inr rfl) P) (fun _ => qd_71 s0 s1 k0 k1 (Or.inl rfl) P))
theorem qd_cell {post : Int32 → Prop} {L : Nat} {xs : Nat → Int32} {u : St0} (k : Nat) (hL : L ≤ 4) (hk : k < 4) (H : ∀ x, post x) : wpL_cellAt post L xs u (nI k) :=
  pk_le L k (fun _ => H 0) (fun z => ⟨pk_in k L z, H _⟩)
theorem i_vc (xs : Nat → Int32) (L : Nat) (hL : L ≤ 4) : wpL_law (fun r => r = 1) L xs := by
  unfold wpL_law
  exact qd_cell 0 hL (by omega) (fun r1 => qd_cell 1 hL (by omega) (fun r2 => qd_cell 2 hL (by omega) (fun r3 => qd_cell 3 hL (by omega) (fun r4 => ⟨440, 7040, by omega, by omega, qd_lawOf () r1 r2 r3 r4 (by omega) (by omega) rfl⟩))))
end
