section
theorem pk_us {f : Nat → Int32} {k : Nat} {x : Int32} : upd f k x k = x := if_pos rfl
theorem pk_un {f : Nat → Int32} {k j : Nat} {x : Int32} (h : j ≠ k) : upd f k x j = f j := if_neg h
theorem pk_sub {a b : Nat} (h : b ≤ a) : nI a - nI b = nI (a - b) := by
  obtain ⟨c, rfl⟩ : ∃ c, a = c + b := ⟨a - b, by omega⟩
  rw [← nI_add, Int32.add_sub_cancel, Nat.add_sub_cancel]
theorem pk_ix (x : Int32) {n : Nat} (hn : n < 2 ^ 31) : x < 0 ∨ nI n ≤ x ∨ ∃ j : Nat, j < n ∧ x = nI j := by
  by_cases h : x < 0
  · exact Or.inl h
  · obtain ⟨j, hj, rfl⟩ := nI_of h
    by_cases h2 : j < n
    · exact Or.inr (Or.inr ⟨j, h2, rfl⟩)
    · exact Or.inr (Or.inl (nI_le (by omega) hj))
theorem pk_lt {x y : Int32} {A B : Prop} (a b : Nat) (f : a < b → A) (g : b ≤ a → B) (hx : x = nI a := by rfl) (hy : y = nI b := by rfl) (ha : a < 2 ^ 31 := by omega) (hb : b < 2 ^ 31 := by omega) : (x < y → A) ∧ (¬ x < y → B) := by
  subst hx hy
  rw [nI_ltI ha hb]
  exact ⟨f, fun z => g (by omega)⟩
theorem pk_eq {x y : Int32} {A B : Prop} (a b : Nat) (f : a = b → A) (g : a ≠ b → B) (hx : x = nI a := by rfl) (hy : y = nI b := by rfl) (ha : a < 2 ^ 31 := by omega) (hb : b < 2 ^ 31 := by omega) : (x = y → A) ∧ (¬ x = y → B) := by
  subst hx hy
  rw [nI_eq ha hb]
  exact ⟨f, g⟩
theorem pk_vb (z : Int32) : vp_nar .byte z.toInt8.toInt32 = z.toInt8.toInt32 := by rw [vp_nar_byte]; simp
theorem bp_b (x : Int32) : x.toInt8.toInt32 &&& 255 = x &&& 255 := by
  apply Int32.toBitVec_inj.mp
  rw [Int32.toBitVec_and, Int32.toBitVec_and, Int8.toBitVec_toInt32, Int32.toBitVec_toInt8]
  apply BitVec.eq_of_getLsbD_eq
  intro i hi
  rw [BitVec.getLsbD_and, BitVec.getLsbD_and]
  have hm : ∀ i < 32, 8 ≤ i → (255 : Int32).toBitVec.getLsbD i = false := by decide
  rcases Nat.lt_or_ge i 8 with z | z
  · rw [BitVec.getLsbD_signExtend, BitVec.getLsbD_signExtend, if_pos z, if_pos hi]
    simp only [z, hi, decide_true, Bool.true_and]
  · rw [hm i hi z]; simp
/-! ===== own rows ===== -/
theorem bw_8 : nI 8 = 8 := by decide +kernel
theorem bw_small : ∀ i, i < 8 → (nI i).toInt16.toInt32 = nI i := by decide +kernel
theorem bw_short {i : Nat} (hi : i < 8) : vp_nar .short (nI i) = nI i := by
  rw [vp_nar_short]; exact bw_small i hi
theorem bw_short2 {i : Nat} (hi : i < 8) : vp_nar .short (nI i).toInt16.toInt32 = nI i := by
  rw [bw_small i hi]; exact bw_short hi
theorem bw_byte (x : Int32) : vp_nar .byte x.toInt8.toInt32 &&& 255 = x &&& 255 := by
  rw [pk_vb]; exact bp_b x
theorem bw_lim {k : Nat} (h : k < 8) : k < 2 ^ 31 := by omega
theorem bw_uc (f : Nat → Int32) {k : Nat} (x : Int32) (h : k < 8) : upd f (nI k).toNatClampNeg x = upd f k x := by
  rw [nI_clamp (bw_lim h)]
theorem bw_rc (f : Nat → Int32) {k : Nat} (h : k < 8) : f (nI k).toNatClampNeg = f k := by
  rw [nI_clamp (bw_lim h)]
theorem bw_in8 {k : Nat} (h : k < 8) : vp_in (nI k) 8 := vp_in_nI h (by decide)
/-- a place of a rotation: a + k is below twice n -/
def bw_rot (n a : Nat) : Nat := if a < n then a else a - n
theorem bw_rot_lt {n a : Nat} (h : a < 2 * n) : bw_rot n a < n := by
  unfold bw_rot; split <;> omega
theorem bw_rot_0 {n a : Nat} (h : a < n) : bw_rot n (a + 0) = a := by
  unfold bw_rot; rw [if_pos (by omega)]; omega
theorem bw_rot_s {n a k : Nat} (ha : a < n) (hk : k < n) : bw_rot n (a + (k + 1)) = if bw_rot n (a + k) + 1 = n then 0 else bw_rot n (a + k) + 1 := by
  unfold bw_rot
  by_cases h1 : a + k < n
  · rw [if_pos h1]
    by_cases h2 : a + k + 1 = n
    · rw [if_pos h2, if_neg (by omega)]; omega
    · rw [if_neg h2, if_pos (by omega)]; omega
  · rw [if_neg h1, if_neg (by omega), if_neg (by omega)]; omega
end
section
/-! ===== the comparison of two rotations, X's inner loop and Y's less ===== -/
theorem bw_x133 {post : Int32 → SX → Prop} {J25 : Int32 → (Nat → Int32) → (Nat → Int32) → Prop} {J47 : Int32 → Int32 → (Nat → Int32) → (Nat → Int32) → Prop} {J70 : Int32 → Int32 → Prop} {x1 x2 x3 x4 x5 x6 fn fd : Int32} {B ao : Nat → Int32} {k a b : Nat} (ha : a < 8) (hb : b < 8)
    (h1 : B b < B a → J70 1 (nI (k + 1))) (h2 : B a < B b → J70 (-1) (nI (k + 1))) (h3 : B a = B b → J70 x6 (nI (k + 1))) :
    wX_transform_133 post J25 J47 J70 x1 x2 x3 x4 x5 x6 (nI k) (nI a) (nI b) fn fd B ao := by
  unfold wX_transform_133
  exact ⟨bw_in8 ha, nm_r (bw_rc B ha) ⟨bw_in8 hb, nm_r (bw_rc B hb)
    (br_c (fun h => br_c (fun h' => nm_r (nI_1 k) (h3 (Int32.le_antisymm h' h))) (fun h' => nm_r (nI_1 k) (h1 (Int32.not_le.mp h'))))
      (fun h => nm_r (nI_1 k) (h2 (Int32.not_le.mp h))))⟩⟩
theorem bw_x109 {post : Int32 → SX → Prop} {J25 : Int32 → (Nat → Int32) → (Nat → Int32) → Prop} {J47 : Int32 → Int32 → (Nat → Int32) → (Nat → Int32) → Prop} {J70 : Int32 → Int32 → Prop} {x1 x3 x4 x5 x6 x8 fd : Int32} {B ao : Nat → Int32} {n s k : Nat} (hn : n ≤ 8) (hs : s < n) (hk : k < n)
    (H : wX_transform_133 post J25 J47 J70 x1 (nI s) x3 x4 x5 x6 (nI k) x8 (nI (bw_rot n (s + k))) (nI n) fd B ao) :
    wX_transform_109 post J25 J47 J70 x1 (nI s) x3 x4 x5 x6 (nI k) x8 (nI n) fd B ao := by
  unfold wX_transform_109
  refine nm_r (nI_add s k) (pk_lt (s + k) n (fun h => ?_) (fun h => nm_r (pk_sub h) ?_))
  · rw [bw_rot, if_pos h] at H; exact H
  · rw [bw_rot, if_neg (Nat.not_lt.mpr h)] at H; exact H
theorem bw_x70 {post : Int32 → SX → Prop} {J25 : Int32 → (Nat → Int32) → (Nat → Int32) → Prop} {J47 : Int32 → Int32 → (Nat → Int32) → (Nat → Int32) → Prop} {x1 x3 x4 fd : Int32} {B ao : Nat → Int32} {n s t k m : Nat} (hn : n ≤ 8) (hs : s < n) (ht : t < n) (hk : k < n)
    (H : wX_transform_133 post J25 J47 (wX_transform_70 post J25 J47 x1 (nI s) x3 x4 (nI t) (nI n) fd B ao m) x1 (nI s) x3 x4 (nI t) 0 (nI k) (nI (bw_rot n (t + k))) (nI (bw_rot n (s + k))) (nI n) fd B ao) :
    wX_transform_70 post J25 J47 x1 (nI s) x3 x4 (nI t) (nI n) fd B ao (m + 1) 0 (nI k) := by
  have hk' : ¬ nI n ≤ nI k := nI_ge hk (by omega)
  have H2 := bw_x109 hn hs hk H
  rw [wX_transform_70]
  refine br_t rfl (br_f hk' (nm_r (nI_add t k) (pk_lt (t + k) n (fun h => ?_) (fun h => nm_r (pk_sub h) ?_))))
  · rw [bw_rot, if_pos h] at H2; exact H2
  · rw [bw_rot, if_neg (Nat.not_lt.mpr h)] at H2; exact H2
theorem bw_y67 {post : Int32 → Prop} {J2 : Int32 → Int32 → Int32 → Prop} {x1 fd : Int32} {C ao : Nat → Int32} {b k n : Nat} (hn : n ≤ 8) (hb : b < n)
    (H : J2 x1 (nI (if b + 1 = n then 0 else b + 1)) (nI (k + 1))) : wY_less_67 post J2 x1 (nI b) (nI k) (nI n) fd C ao := by
  unfold wY_less_67
  refine nm_r (nI_1 b) (pk_eq (b + 1) n (fun h => nm_r (nI_1 k) ?_) (fun h => nm_r (nI_1 k) ?_))
  · rw [if_pos h, nI_0] at H; exact H
  · rw [if_neg h] at H; exact H
theorem bw_rc255 (f : Nat → Int32) {k : Nat} (h : k < 8) : f (nI k).toNatClampNeg &&& 255 = f k &&& 255 := by
  rw [nI_clamp (bw_lim h)]
theorem bw_yeq {post : Int32 → Prop} {fd : Int32} {C ao : Nat → Int32} {a b k n m : Nat} (hn : n ≤ 8) (ha : a < n) (hb : b < n) (hk : k < n) (e : C a &&& 255 = C b &&& 255)
    (H : wY_less_2 post (nI n) fd C ao m (nI (if a + 1 = n then 0 else a + 1)) (nI (if b + 1 = n then 0 else b + 1)) (nI (k + 1))) :
    wY_less_2 post (nI n) fd C ao (m + 1) (nI a) (nI b) (nI k) := by
  have hk' : ¬ nI n ≤ nI k := nI_ge hk (by omega)
  rw [wY_less_2]
  refine br_f hk' ⟨bw_in8 (by omega), nm_r (bw_rc255 C (by omega)) ⟨bw_in8 (by omega), nm_r (bw_rc255 C (by omega)) (br_t e (nm_r (nI_1 a) (pk_eq (a + 1) n (fun h => bw_y67 hn hb ?_) (fun h => bw_y67 hn hb ?_))))⟩⟩
  · rw [if_pos h, nI_0] at H; exact H
  · rw [if_neg h] at H; exact H
theorem bw_yne {post : Int32 → Prop} {fd : Int32} {C ao : Nat → Int32} {a b k n m : Nat} (hn : n ≤ 8) (ha : a < n) (hb : b < n) (hk : k < n) (e : ¬ C a &&& 255 = C b &&& 255)
    (H0 : C b &&& 255 ≤ C a &&& 255 → post 0) (H1 : ¬ C b &&& 255 ≤ C a &&& 255 → post 1) :
    wY_less_2 post (nI n) fd C ao (m + 1) (nI a) (nI b) (nI k) := by
  have hk' : ¬ nI n ≤ nI k := nI_ge hk (by omega)
  rw [wY_less_2]
  exact br_f hk' ⟨bw_in8 (by omega), nm_r (bw_rc255 C (by omega)) ⟨bw_in8 (by omega), nm_r (bw_rc255 C (by omega)) (br_f e (br_c H0 H1))⟩⟩
theorem bw_x70p {post : Int32 → SX → Prop} {J25 : Int32 → (Nat → Int32) → (Nat → Int32) → Prop} {J47 : Int32 → Int32 → (Nat → Int32) → (Nat → Int32) → Prop} {x1 x2 x3 x4 x5 x7 fn fd : Int32} {B ao : Nat → Int32} {m : Nat}
    (H : wX_transform_206 post J25 J47 x1 x2 x3 x4 x5 1 fn fd B ao) : wX_transform_70 post J25 J47 x1 x2 x3 x4 x5 fn fd B ao (m + 1) 1 x7 := by
  rw [wX_transform_70]
  refine br_f (by decide) ?_
  unfold wX_transform_180
  exact br_f (by decide) H
theorem bw_x70m {post : Int32 → SX → Prop} {J25 : Int32 → (Nat → Int32) → (Nat → Int32) → Prop} {J47 : Int32 → Int32 → (Nat → Int32) → (Nat → Int32) → Prop} {x1 x2 x3 x4 x5 x7 fn fd : Int32} {B ao : Nat → Int32} {m : Nat}
    (H : J47 x3 0 B ao) : wX_transform_70 post J25 J47 x1 x2 x3 x4 x5 fn fd B ao (m + 1) (-1) x7 := by
  rw [wX_transform_70]
  refine br_f (by decide) ?_
  unfold wX_transform_180
  refine br_f (by decide) ?_
  unfold wX_transform_206
  exact br_t (by decide) H
theorem bw_x70e {post : Int32 → SX → Prop} {J25 : Int32 → (Nat → Int32) → (Nat → Int32) → Prop} {J47 : Int32 → Int32 → (Nat → Int32) → (Nat → Int32) → Prop} {x1 x3 x4 fd : Int32} {B ao : Nat → Int32} {n s t m : Nat} (hn : n ≤ 8) (hs : s < n) (ht : t < s)
    (H : J47 x3 0 B ao) : wX_transform_70 post J25 J47 x1 (nI s) x3 x4 (nI t) (nI n) fd B ao (m + 1) 0 (nI n) := by
  have h1 : nI n ≤ nI n := nI_le (Nat.le_refl n) (by omega)
  have h2 : ¬ nI s ≤ nI t := nI_ge ht (by omega)
  rw [wX_transform_70]
  refine br_t rfl (br_t h1 ?_)
  unfold wX_transform_180
  refine br_t rfl (br_f h2 ?_)
  unfold wX_transform_206
  exact br_t (by decide) H
def bw_Blk (n : Nat) (B C : Nat → Int32) : Prop := ∀ j, j < n → C j &&& 255 = B j
/-- one outcome g for both comparisons: is the rotation at s below that at t -/
def bw_Cmp (n s t : Nat) (B C : Nat → Int32) (d k : Nat) (g : Bool) : Prop :=
  (∀ (post : Int32 → SX → Prop) (J25 : Int32 → (Nat → Int32) → (Nat → Int32) → Prop) (J47 : Int32 → Int32 → (Nat → Int32) → (Nat → Int32) → Prop) (x1 x3 x4 fd : Int32) (ao : Nat → Int32),
    (g = true → wX_transform_206 post J25 J47 x1 (nI s) x3 x4 (nI t) 1 (nI n) fd B ao) → (g = false → J47 x3 0 B ao) →
    wX_transform_70 post J25 J47 x1 (nI s) x3 x4 (nI t) (nI n) fd B ao (d + 2) 0 (nI k)) ∧
  (∀ (post : Int32 → Prop) (fd : Int32) (ao : Nat → Int32), (g = true → post 1) → (g = false → post 0) →
    wY_less_2 post (nI n) fd C ao (d + 1) (nI (bw_rot n (s + k))) (nI (bw_rot n (t + k))) (nI k))
theorem bw_cmp {n s t : Nat} {B C : Nat → Int32} (hn : n ≤ 8) (hs : s < n) (ht : t < s) (hB : bw_Blk n B C) : ∀ d k : Nat, k + d = n → ∃ g : Bool, bw_Cmp n s t B C d k g := by
  intro d
  induction d with
  | zero =>
    intro k hk
    have e : k = n := by omega
    subst e
    refine ⟨false, fun post J25 J47 x1 x3 x4 fd ao _ hf => bw_x70e hn hs ht (hf rfl), fun post fd ao _ hf => ?_⟩
    have h1 : nI k ≤ nI k := nI_le (Nat.le_refl k) (by omega)
    rw [wY_less_2]
    exact br_t h1 (hf rfl)
  | succ d ih =>
    intro k hk
    have hkn : k < n := by omega
    have htn : t < n := by omega
    have ha : bw_rot n (t + k) < n := bw_rot_lt (by omega)
    have hb : bw_rot n (s + k) < n := bw_rot_lt (by omega)
    have ea := hB _ ha
    have eb := hB _ hb
    have ra := bw_rot_s htn hkn
    have rb := bw_rot_s hs hkn
    obtain ⟨g, ihX, ihY⟩ := ih (k + 1) (by omega)
    rw [ra, rb] at ihY
    by_cases h1 : B (bw_rot n (s + k)) < B (bw_rot n (t + k))
    · have hne : ¬ B (bw_rot n (s + k)) = B (bw_rot n (t + k)) := Int32.ne_of_lt h1
      refine ⟨true, fun post J25 J47 x1 x3 x4 fd ao hT _ => bw_x70 hn hs htn hkn (bw_x133 (by omega) (by omega) (fun _ => bw_x70p (hT rfl)) (fun h => absurd h (Int32.lt_asymm h1)) (fun h => absurd h.symm hne)), fun post fd ao hT _ => bw_yne hn hb ha hkn ?_ (fun h => ?_) (fun _ => hT rfl)⟩
      · rw [ea, eb]; exact hne
      · rw [ea, eb] at h; exact absurd h1 (Int32.not_lt.mpr h)
    · by_cases h2 : B (bw_rot n (t + k)) < B (bw_rot n (s + k))
      · have hne : ¬ B (bw_rot n (t + k)) = B (bw_rot n (s + k)) := Int32.ne_of_lt h2
        refine ⟨false, fun post J25 J47 x1 x3 x4 fd ao _ hF => bw_x70 hn hs htn hkn (bw_x133 (by omega) (by omega) (fun h => absurd h h1) (fun _ => bw_x70m (hF rfl)) (fun h => absurd h hne)), fun post fd ao _ hF => bw_yne hn hb ha hkn ?_ (fun _ => hF rfl) (fun h => ?_)⟩
        · rw [ea, eb]; exact fun z => hne z.symm
        · rw [ea, eb] at h; exact absurd (Int32.not_lt.mp h1) h
      · have he : B (bw_rot n (t + k)) = B (bw_rot n (s + k)) := Int32.le_antisymm (Int32.not_lt.mp h1) (Int32.not_lt.mp h2)
        refine ⟨g, fun post J25 J47 x1 x3 x4 fd ao hT hF => bw_x70 hn hs htn hkn (bw_x133 (by omega) (by omega) (fun h => absurd h h1) (fun h => absurd h h2) (fun _ => ihX post J25 J47 x1 x3 x4 fd ao hT hF)), fun post fd ao hT hF => bw_yeq hn hb ha hkn ?_ (ihY post fd ao hT hF)⟩
        rw [ea, eb]; exact he.symm
end
section
/-! ===== one insertion, both sides; then the outer loops ===== -/
/-- within the insertion of i, with the gap at j -/
def bw_In (n i j : Nat) (oX oY : Nat → Int32) : Prop :=
  (∀ m, m ≤ i → m ≠ j → oX m = oY m ∧ ∃ t, t < i ∧ oX m = nI t) ∧ (∀ m, i < m → m < n → oX m = nI m)
/-- i are inserted -/
def bw_Out (n i : Nat) (oX oY : Nat → Int32) : Prop :=
  (∀ m, m < i → oX m = oY m ∧ ∃ t, t < i ∧ oX m = nI t) ∧ (∀ m, i ≤ m → m < n → oX m = nI m)
theorem bw_out_in {n i : Nat} {oX oY : Nat → Int32} (h : bw_Out n i oX oY) : bw_In n i i oX oY :=
  ⟨fun m h1 h2 => h.1 m (by omega), fun m h1 h2 => h.2 m (by omega) h2⟩
theorem bw_in_out {n i j : Nat} {oX oY : Nat → Int32} (h : bw_In n i j oX oY) (hj : j ≤ i) : bw_Out n (i + 1) (upd oX j (nI i)) (upd oY j (nI i)) := by
  refine ⟨fun m hm => ?_, fun m h1 h2 => ?_⟩
  · by_cases e : m = j
    · subst e
      rw [pk_us, pk_us]
      exact ⟨rfl, i, by omega, rfl⟩
    · rw [pk_un e, pk_un e]
      obtain ⟨h1, t, h2, h3⟩ := h.1 m (by omega) e
      exact ⟨h1, t, by omega, h3⟩
  · rw [pk_un (by omega)]
    exact h.2 m (by omega) h2
theorem bw_in_step {n i j : Nat} {oX oY : Nat → Int32} (h : bw_In n i (j + 1) oX oY) (hj : j + 1 ≤ i) :
    ∃ t, t < i ∧ oX j = nI t ∧ oY j = nI t ∧ bw_In n i j (upd oX (j + 1) (nI t)) (upd oY (j + 1) (nI t)) := by
  obtain ⟨h1, t, h2, h3⟩ := h.1 j (by omega) (by omega)
  refine ⟨t, h2, h3, h1.symm.trans h3, fun m hm hne => ?_, fun m hm hm2 => ?_⟩
  · by_cases e : m = j + 1
    · subst e
      rw [pk_us, pk_us]
      exact ⟨rfl, t, h2, rfl⟩
    · rw [pk_un e, pk_un e]
      exact h.1 m hm e
  · rw [pk_un (by omega)]
    exact h.2 m hm hm2
theorem bw_x233 {post : Int32 → SX → Prop} {J25 : Int32 → (Nat → Int32) → (Nat → Int32) → Prop} {x3 fn fd : Int32} {B oX : Nat → Int32} {i j : Nat} (hj : j < 8) (hx : x3 + 1 = nI j)
    (H : J25 (nI (i + 1)) B (upd oX j (nI i))) : wX_transform_233 post J25 (nI i) (nI i) x3 fn fd B oX := by
  unfold wX_transform_233
  rw [hx]
  exact ⟨bw_in8 hj, nm_r (bw_uc oX _ hj) (nm_r (nI_1 i) H)⟩
theorem bw_x206 {post : Int32 → SX → Prop} {J25 : Int32 → (Nat → Int32) → (Nat → Int32) → Prop} {J47 : Int32 → Int32 → (Nat → Int32) → (Nat → Int32) → Prop} {x1 x2 x4 fn fd : Int32} {B oX : Nat → Int32} {j t : Nat} (hj : j + 1 < 8)
    (H : J47 (nI j + (-1)) x4 B (upd oX (j + 1) (nI t))) : wX_transform_206 post J25 J47 x1 x2 (nI j) x4 (nI t) 1 fn fd B oX := by
  unfold wX_transform_206
  rw [nI_1 j]
  exact br_f (by decide) ⟨bw_in8 hj, nm_r (bw_uc oX _ hj) (nm_e H)⟩
theorem bw_y52 {post : Int32 → SY → Prop} {J2 : Int32 → (Nat → Int32) → (Nat → Int32) → Prop} {fn fd : Int32} {C oY : Nat → Int32} {i j : Nat} (hi : i < 8) (hj : j < 8)
    (H : J2 (nI (i + 1)) C (upd oY j (nI i))) : wY_transform_52 post J2 (nI i) (nI j) fn fd C oY := by
  unfold wY_transform_52
  rw [bw_short2 hi]
  exact ⟨bw_in8 hj, nm_r (bw_uc oY _ hj) (nm_r (nI_1 i) H)⟩
theorem bw_m1p (x : Int32) : x + (-1) + 1 = x := by
  rw [Int32.add_assoc, show (-1 : Int32) + 1 = 0 from rfl, Int32.add_zero]
/-- the insertion of i from the gap j downward: one outcome -/
def bw_Ins (n i : Nat) (B C : Nat → Int32) (j : Nat) (oX oY oX' oY' : Nat → Int32) : Prop :=
  (∀ (post : Int32 → SX → Prop) (J25 : Int32 → (Nat → Int32) → (Nat → Int32) → Prop) (fd x3 : Int32), x3 + 1 = nI j → J25 (nI (i + 1)) B oX' →
    wX_transform_47 post J25 (nI i) (nI i) (nI n) fd (j + 2) x3 1 B oX) ∧
  (∀ (post : Int32 → SY → Prop) (J2 : Int32 → (Nat → Int32) → (Nat → Int32) → Prop) (fd : Int32), J2 (nI (i + 1)) C oY' →
    wY_transform_12 post J2 (nI i) (nI n) fd (j + 1) (nI j) C oY)
theorem bw_ins {n i : Nat} {B C : Nat → Int32} (hn : n ≤ 8) (hi : i < n) (hB : bw_Blk n B C) : ∀ (j : Nat) (oX oY : Nat → Int32), j ≤ i → bw_In n i j oX oY →
    ∃ oX' oY' : Nat → Int32, bw_Out n (i + 1) oX' oY' ∧ bw_Ins n i B C j oX oY oX' oY' := by
  intro j
  induction j with
  | zero =>
    intro oX oY hj h
    refine ⟨_, _, bw_in_out h hj, fun post J25 fd x3 hx H => ?_, fun post J2 fd H => ?_⟩
    · have e : x3 = -1 := by
        have z : x3 = x3 + 1 - 1 := (Int32.add_sub_cancel x3 1).symm
        rw [z, hx]; rfl
      rw [wX_transform_47]
      exact br_f (by decide) (br_t (by rw [e]; decide) (bw_x233 (by omega) hx H))
    · have z : nI 0 ≤ 0 := by rw [nI_0]; decide
      rw [wY_transform_12]
      exact br_t z (bw_y52 (by omega) (by omega) H)
  | succ j ih =>
    intro oX oY hj h
    obtain ⟨t, hti, eX, eY, h'⟩ := bw_in_step h hj
    obtain ⟨g, cX, cY⟩ := bw_cmp hn hi hti hB n 0 (by omega)
    rw [bw_rot_0 hi, bw_rot_0 (by omega : t < n), nI_0] at cY
    rw [nI_0] at cX
    have ex : ∀ x3 : Int32, x3 + 1 = nI (j + 1) → x3 = nI j := fun x3 hx => by
      have z : x3 = x3 + 1 - 1 := (Int32.add_sub_cancel x3 1).symm
      rw [z, hx]; exact nI_pred j
    have p0 : ¬ nI j < 0 := nI_pos (by omega)
    have p1 : ¬ nI (j + 1) ≤ 0 := nI_nle (by omega) (by omega)
    have rX : oX (nI j).toNatClampNeg = nI t := (bw_rc oX (by omega)).trans eX
    cases g with
    | false =>
      refine ⟨_, _, bw_in_out h hj, fun post J25 fd x3 hx H => ?_, fun post J2 fd H => ?_⟩
      · cases ex x3 hx
        rw [wX_transform_47]
        refine br_f (by decide) (br_f p0 ⟨bw_in8 (by omega), nm_r rX ⟨n + 2, cX _ _ _ _ _ _ _ _ (fun z => nomatch z) (fun _ => ?_)⟩⟩)
        rw [wX_transform_47]
        exact br_t rfl (bw_x233 (by omega) hx H)
      · rw [wY_transform_12]
        refine br_f p1 ?_
        rw [nI_pred, nI_clamp (bw_lim (by omega : j < 8)), eY]
        refine ⟨bw_in8 (by omega), ?_⟩
        unfold wpY_less
        exact ⟨n + 1, cY _ _ _ (fun z => nomatch z) (fun _ => br_t rfl (bw_y52 (by omega) (by omega) H))⟩
    | true =>
      obtain ⟨oX', oY', hO, iX, iY⟩ := ih _ _ (by omega) h'
      refine ⟨oX', oY', hO, fun post J25 fd x3 hx H => ?_, fun post J2 fd H => ?_⟩
      · cases ex x3 hx
        rw [wX_transform_47]
        exact br_f (by decide) (br_f p0 ⟨bw_in8 (by omega), nm_r rX ⟨n + 2, cX _ _ _ _ _ _ _ _ (fun _ => bw_x206 (by omega) (iX post J25 fd _ (bw_m1p _) H)) (fun z => nomatch z)⟩⟩)
      · rw [wY_transform_12]
        refine br_f p1 ?_
        rw [nI_pred, nI_clamp (bw_lim (by omega : j < 8)), eY, bw_short (by omega : t < 8)]
        refine ⟨bw_in8 (by omega), ?_⟩
        unfold wpY_less
        refine ⟨n + 1, cY _ _ _ (fun _ => br_f (by decide) ⟨bw_in8 (by omega), bw_in8 (by omega), nm_r (bw_uc oY _ (by omega)) (nm_r (e' := nI j) ?_ (iY post J2 fd H))⟩) (fun z => nomatch z)⟩
        rw [← nI_1, Int32.add_assoc, show (1 : Int32) + (-1) = 0 from rfl, Int32.add_zero]
end
section
theorem bw_outer {n : Nat} {B C : Nat → Int32} (hn : n ≤ 8) (hB : bw_Blk n B C) : ∀ (d i : Nat) (oX oY : Nat → Int32), i + d = n → bw_Out n i oX oY →
    ∃ oX' oY' : Nat → Int32, bw_Out n n oX' oY' ∧
      (∀ (post : Int32 → SX → Prop) (fd : Int32), post (nI n) (nI n, nI n, B, oX') → wX_transform_25 post (nI n) fd (d + 1) (nI i) B oX) ∧
      (∀ (post : Int32 → SY → Prop) (fd : Int32), post (nI n) (nI n, nI n, C, oY') → wY_transform_2 post (nI n) fd (d + 1) (nI i) C oY) := by
  intro d
  induction d with
  | zero =>
    intro i oX oY hi h
    have e : i = n := by omega
    subst e
    have h1 : nI i ≤ nI i := nI_le (Nat.le_refl i) (by omega)
    refine ⟨oX, oY, h, fun post fd H => ?_, fun post fd H => ?_⟩
    · rw [wX_transform_25]; exact br_t h1 H
    · rw [wY_transform_2]; exact br_t h1 H
  | succ d ih =>
    intro i oX oY hi h
    have hin : i < n := by omega
    have h1 : ¬ nI n ≤ nI i := nI_ge hin (by omega)
    obtain ⟨o1, o2, hO, sX, sY⟩ := bw_ins hn hin hB i oX oY (Nat.le_refl i) (bw_out_in h)
    obtain ⟨oX', oY', hE, iX, iY⟩ := ih (i + 1) o1 o2 (by omega) hO
    have rX : oX (nI i).toNatClampNeg = nI i := (bw_rc oX (by omega)).trans (h.2 i (Nat.le_refl i) hin)
    refine ⟨oX', oY', hE, fun post fd H => ?_, fun post fd H => ?_⟩
    · rw [wX_transform_25]
      exact br_f h1 ⟨bw_in8 (by omega), nm_r rX (nm_e ⟨i + 2, sX _ _ _ _ (Int32.sub_add_cancel _ _) (iX post fd H)⟩)⟩
    · rw [wY_transform_2]
      exact br_f h1 ⟨i + 1, sY _ _ _ (iY post fd H)⟩
theorem bw_init {n : Nat} {B : Nat → Int32} (hn : n ≤ 8) : ∀ (d i : Nat) (oX : Nat → Int32), i + d = n → (∀ m, m < i → oX m = nI m) →
    ∃ oX' : Nat → Int32, (∀ m, m < n → oX' m = nI m) ∧
      (∀ (post : Int32 → SX → Prop) (fd : Int32), (∃ n25, wX_transform_25 post (nI n) fd n25 1 B oX') → wX_transform_2 post (nI n) fd (d + 1) (nI i) B oX) := by
  intro d
  induction d with
  | zero =>
    intro i oX hi h
    have e : i = n := by omega
    subst e
    have h1 : nI i ≤ nI i := nI_le (Nat.le_refl i) (by omega)
    refine ⟨oX, h, fun post fd H => ?_⟩
    rw [wX_transform_2]; exact br_t h1 H
  | succ d ih =>
    intro i oX hi h
    have hin : i < n := by omega
    have h1 : ¬ nI n ≤ nI i := nI_ge hin (by omega)
    obtain ⟨oX', hE, iX⟩ := ih (i + 1) (upd oX i (nI i)) (by omega) (fun m hm => by
      by_cases e : m = i
      · subst e; exact pk_us
      · rw [pk_un e]; exact h m (by omega))
    refine ⟨oX', hE, fun post fd H => ?_⟩
    rw [wX_transform_2]
    exact br_f h1 ⟨bw_in8 (by omega), nm_r (bw_uc oX _ (by omega)) (nm_r (nI_1 i) (iX post fd H))⟩
theorem bw_trans {n : Nat} {B C : Nat → Int32} (hn : n ≤ 8) (hB : bw_Blk n B C) (oX oY : Nat → Int32) :
    ∃ oX' oY' : Nat → Int32, bw_Out n n oX' oY' ∧
      (∀ (post : Int32 → SX → Prop) (fd : Int32), post (nI n) (nI n, nI n, B, oX') → wpX_transform post (nI n, fd, B, oX)) ∧
      (∀ (post : Int32 → SY → Prop) (fd : Int32), post (nI n) (nI n, nI n, C, oY') → wpY_transform post (nI n, fd, C, oY)) := by
  obtain ⟨oI, hI, wI⟩ := bw_init (B := B) hn n 0 oX (by omega) (fun m hm => absurd hm (Nat.not_lt_zero m))
  rw [nI_0] at wI
  by_cases h0 : n = 0
  · subst h0
    have z1 : nI 0 ≤ 1 := by rw [nI_0]; decide
    have z0 : nI 0 ≤ 0 := by rw [nI_0]; decide
    refine ⟨oI, oY, ⟨fun m hm => absurd hm (Nat.not_lt_zero m), fun m _ hm => absurd hm (Nat.not_lt_zero m)⟩, fun post fd H => ?_, fun post fd H => ?_⟩
    · unfold wpX_transform
      refine ⟨_, wI post fd ⟨1, ?_⟩⟩
      rw [wX_transform_25]; exact br_t z1 H
    · unfold wpY_transform
      refine ⟨1, ?_⟩
      rw [wY_transform_2]; exact br_t z0 H
  · have hO : bw_Out n 1 oI (upd oY 0 (nI 0)) := by
      refine ⟨fun m hm => ?_, fun m _ hm => hI m hm⟩
      have e : m = 0 := by omega
      subst e
      rw [pk_us]
      exact ⟨hI 0 (by omega), 0, by omega, hI 0 (by omega)⟩
    obtain ⟨oX', oY', hE, iX, iY⟩ := bw_outer hn hB (n - 1) 1 oI (upd oY 0 (nI 0)) (by omega) hO
    have h1 : ¬ nI n ≤ 0 := nI_nle (by omega) (by omega)
    refine ⟨oX', oY', hE, fun post fd H => ?_, fun post fd H => ?_⟩
    · unfold wpX_transform
      exact ⟨_, wI post fd ⟨_, iX post fd H⟩⟩
    · unfold wpY_transform
      refine ⟨n - 1 + 1 + 1, ?_⟩
      rw [wY_transform_2]
      refine br_f h1 ⟨1, ?_⟩
      rw [wY_transform_12]
      exact br_t (by decide) (bw_y52 (i := 0) (j := 0) (by omega) (by omega) (iY post fd H))
end
section
/-- the counts are the same numbers; X's block holds the bytes of Y's block without their signs; below done the orders are the same indices of the block -/
def i_Rel (_ : Nat) (u : SX) (v : SY) : Prop :=
  ∃ (n d : Nat) (B C oX oY : Nat → Int32), u = (nI n, nI d, B, oX) ∧ v = (nI n, nI d, C, oY) ∧ n ≤ 8 ∧ (d = 0 ∨ d = n) ∧ bw_Blk n B C ∧ (∀ m, m < d → oX m = oY m ∧ ∃ t, t < n ∧ oX m = nI t)
theorem i_up {k : Nat} {u : SX} {v : SY} (h : i_Rel k u v) : i_Rel (k + 2) u v := h
theorem i_vc0 : wpX_init (fun u => wpY_init (fun v => i_Rel 0 u v)) := by
  unfold wpX_init wpY_init
  exact ⟨0, 0, _, _, _, _, rfl, rfl, by omega, Or.inl rfl, fun j hj => absurd hj (Nat.not_lt_zero j), fun m hm => absurd hm (Nat.not_lt_zero m)⟩
theorem i_vc_put {k : Nat} {u : SX} {v : SY} (I : i_Rel k u v) (hk : k + 2 ≤ 1024) (v1 : Int32) : wpX_put (fun r u' => wpY_put (fun r' v' => r' = r ∧ i_Rel (k + 2) u' v') v v1) u v1 := by
  obtain ⟨n, d, B, C, oX, oY, rfl, rfl, hn, hd, hB, hO⟩ := I
  unfold wpX_put wpY_put
  dsimp only
  by_cases h : n = 8
  · subst h
    have h2 : ¬ nI 8 < 8 := by rw [bw_8]; decide
    exact br_t bw_8 (br_f h2 ⟨rfl, 8, d, B, C, oX, oY, rfl, rfl, hn, hd, hB, hO⟩)
  · have hn8 : n < 8 := by omega
    have h1 : ¬ nI n = 8 := by rw [← bw_8, nI_eq (by omega) (by omega)]; exact h
    have h2 : nI n < 8 := by rw [← bw_8]; exact nI_lt hn8 (by omega)
    refine br_f h1 ⟨bw_in8 hn8, nm_r (bw_uc B _ hn8) (nm_r (nI_1 n) (br_t h2 (nm_r (nI_1 n) ⟨bw_in8 hn8, nm_r (bw_uc C _ hn8) ⟨rfl, n + 1, 0, _, _, oX, oY, rfl, rfl, by omega, Or.inl rfl, fun j hj => ?_, fun m hm => absurd hm (Nat.not_lt_zero m)⟩⟩)))⟩
    by_cases e : j = n
    · subst e
      rw [pk_us, pk_us]; exact bw_byte v1
    · rw [pk_un e, pk_un e]; exact hB j (by omega)
theorem i_vc_transform {k : Nat} {u : SX} {v : SY} (I : i_Rel k u v) (hk : k + 2 ≤ 1024) : wpX_transform (fun r u' => wpY_transform (fun r' v' => r' = r ∧ i_Rel (k + 2) u' v') v) u := by
  obtain ⟨n, d, B, C, oX, oY, rfl, rfl, hn, hd, hB, hO⟩ := I
  obtain ⟨oX', oY', hE, iX, iY⟩ := bw_trans hn hB oX oY
  exact iX _ _ (iY _ _ ⟨rfl, n, n, B, C, oX', oY', rfl, rfl, hn, Or.inr rfl, hB, hE.1⟩)
theorem i_vc_last {k : Nat} {u : SX} {v : SY} (I : i_Rel k u v) (hk : k + 2 ≤ 1024) (v1 : Int32) : wpX_last (fun r => wpY_last (fun r' => r' = r ∧ i_Rel (k + 2) u v) v v1) u v1 := by
  have I2 : i_Rel (k + 2) u v := I
  obtain ⟨n, d, B, C, oX, oY, rfl, rfl, hn, hd, hB, hO⟩ := I
  unfold wpX_last wpY_last
  dsimp only
  by_cases h0 : v1 < 0
  · exact br_t h0 (br_t h0 ⟨rfl, I2⟩)
  · refine br_f h0 ?_
    by_cases hl : v1 < nI d
    · obtain ⟨i, hi, rfl⟩ := nI_of h0
      have hid : i < d := (nI_ltI hi (by omega)).mp hl
      have hdn : d = n := by omega
      subst hdn
      have hi8 : i < 8 := by omega
      obtain ⟨eO, t, ht, eX⟩ := hO i hid
      have rX : oX (nI i).toNatClampNeg = nI t := (bw_rc oX hi8).trans eX
      have rY : oY (nI i).toNatClampNeg = nI t := (bw_rc oY hi8).trans (eO.symm.trans eX)
      rw [rX, rY]
      refine br_t hl ⟨bw_in8 hi8, ?_⟩
      cases t with
      | zero =>
        obtain ⟨p, rfl⟩ : ∃ p, d = p + 1 := ⟨d - 1, by omega⟩
        have e1 : nI 0 - 1 = -1 := by rw [nI_0]; rfl
        have e2 : (-1 : Int32) + nI (p + 1) = nI p := by rw [Int32.add_comm, ← nI_1, Int32.add_assoc, show (1 : Int32) + (-1) = 0 from rfl, Int32.add_zero]
        refine nm_r e1 (br_f (by decide) (nm_r e2 ⟨bw_in8 (by omega), br_f h0 (br_t hl ⟨bw_in8 hi8, nm_e (br_t nI_0 ?_)⟩)⟩))
        unfold wY_last_37
        rw [nI_pred, bw_rc B (by omega), bw_rc C (by omega)]
        exact ⟨bw_in8 (by omega), hB p (by omega), I2⟩
      | succ t =>
        have g0 : 0 ≤ nI t := nI_pos' (by omega)
        have g1 : ¬ nI (t + 1) = 0 := nI_ne0 (by omega) (by omega)
        refine nm_r (nI_pred t) (br_t g0 ⟨bw_in8 (by omega), br_f h0 (br_t hl ⟨bw_in8 hi8, nm_e (br_f g1 ?_)⟩)⟩)
        unfold wY_last_37
        rw [nI_pred, bw_rc B (by omega), bw_rc C (by omega)]
        exact ⟨bw_in8 (by omega), hB t (by omega), I2⟩
    · exact br_f hl (br_f h0 (br_f hl ⟨rfl, I2⟩))
theorem bw_scan {B C oX oY : Nat → Int32} {fn : Int32} {e : Nat} (he : e ≤ 8) (h : ∀ m, m < e → oX m = oY m) : ∀ d j : Nat, j + d = e → ∃ r : Int32,
    (∀ post : Int32 → Prop, post r → wX_primary_11 post fn (nI e) B oX (d + 1) (nI j)) ∧ (∀ post : Int32 → Prop, post r → wY_primary_2 post fn (nI e) C oY (d + 1) (nI j)) := by
  intro d
  induction d with
  | zero =>
    intro j hj
    have e1 : j = e := by omega
    subst e1
    have h1 : nI j ≤ nI j := nI_le (Nat.le_refl j) (by omega)
    exact ⟨-1, fun _ hp => br_t h1 hp, fun _ hp => br_t h1 hp⟩
  | succ d ih =>
    intro j hj
    have h1 : ¬ nI e ≤ nI j := nI_ge (by omega) (by omega)
    have hi : vp_in (nI j) 8 := bw_in8 (by omega)
    have q : oY (nI j).toNatClampNeg = oX (nI j).toNatClampNeg := by
      rw [bw_rc oX (by omega), bw_rc oY (by omega)]; exact (h j (by omega)).symm
    by_cases z : oX (nI j).toNatClampNeg = 0
    · exact ⟨nI j, fun _ hp => br_f h1 ⟨hi, br_t z hp⟩, fun _ hp => br_f h1 ⟨hi, br_t (q.trans z) hp⟩⟩
    · obtain ⟨r, hX, hY⟩ := ih (j + 1) (by omega)
      exact ⟨r, fun post hp => br_f h1 ⟨hi, br_f z (nm_r (nI_1 j) (hX post hp))⟩, fun post hp => br_f h1 ⟨hi, br_f (fun y => z (q.symm.trans y)) (nm_r (nI_1 j) (hY post hp))⟩⟩
theorem i_vc_primary {k : Nat} {u : SX} {v : SY} (I : i_Rel k u v) (hk : k + 2 ≤ 1024) : wpX_primary (fun r => wpY_primary (fun r' => r' = r ∧ i_Rel (k + 2) u v) v) u := by
  have I2 : i_Rel (k + 2) u v := I
  obtain ⟨n, d, B, C, oX, oY, rfl, rfl, hn, hd, hB, hO⟩ := I
  unfold wpX_primary wpY_primary
  dsimp only
  by_cases h0 : d = 0
  · subst h0
    have z : nI 0 ≤ 0 := by rw [nI_0]; decide
    exact br_t nI_0 ⟨1, br_t z ⟨rfl, I2⟩⟩
  · have h1 : ¬ nI d = 0 := nI_ne0 (by omega) (by omega)
    obtain ⟨r, hX, hY⟩ := bw_scan (B := B) (C := C) (fn := nI n) (e := d) (by omega) (fun m hm => (hO m hm).1) d 0 (by omega)
    rw [nI_0] at hX hY
    exact br_f h1 ⟨_, hX _ ⟨_, hY _ ⟨rfl, I2⟩⟩⟩
end
