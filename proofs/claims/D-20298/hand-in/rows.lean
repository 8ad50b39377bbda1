section
/-- the N places are strictly ascending -/
def as_Up (a : Nat → Int32) (N : Nat) : Prop := ∀ i j, i < j → j < N → (a i).toInt < (a j).toInt
/-- p: how many of the N places hold less than the key -/
def as_At (a : Nat → Int32) (N : Nat) (key : Int32) (p : Nat) : Prop := p ≤ N ∧ (∀ j, j < p → ¬ key ≤ a j) ∧ (∀ j, p ≤ j → j < N → key ≤ a j)
theorem as_ex {a : Nat → Int32} {N : Nat} (key : Int32) (h : as_Up a N) : ∃ p, as_At a N key p := by
  induction N with
  | zero => exact ⟨0, Nat.le_refl 0, fun j hj => absurd hj (by omega), fun j _ hj => absurd hj (by omega)⟩
  | succ N ih =>
    obtain ⟨p, h0, h1, h2⟩ := ih (fun i j hi hj => h i j hi (by omega))
    by_cases hp : p < N
    · refine ⟨p, by omega, h1, fun j hj hj2 => ?_⟩
      by_cases e : j = N
      · have t1 := h2 p (Nat.le_refl p) hp
        have t2 := h p N hp (by omega)
        rw [e]
        rw [Int32.le_iff_toInt_le] at t1 ⊢
        omega
      · exact h2 j hj (by omega)
    · have e : p = N := by omega
      subst e
      by_cases hk : key ≤ a p
      · refine ⟨p, by omega, h1, fun j hj hj2 => ?_⟩
        have e : j = p := by omega
        rw [e]
        exact hk
      · refine ⟨p + 1, by omega, fun j hj => ?_, fun j hj hj2 => absurd hj2 (by omega)⟩
        by_cases e : j = p
        · rw [e]
          exact hk
        · exact h1 j (by omega)
theorem as_hit {a : Nat → Int32} {N p i : Nat} {key : Int32} (hu : as_Up a N) (h : as_At a N key p) (hi : i < N) (he : a i = key) : i = p := by
  obtain ⟨h0, h1, h2⟩ := h
  rcases Nat.lt_trichotomy i p with z | z | z
  · exact absurd (show key ≤ a i by rw [he]; exact Int32.le_iff_toInt_le.mpr (Int.le_refl _)) (h1 i z)
  · exact z
  · have t1 := h2 p (Nat.le_refl p) (by omega)
    have t2 := hu p i z hi
    rw [he] at t2
    rw [Int32.le_iff_toInt_le] at t1
    omega
theorem as_anti {x y : Int32} (h : x ≤ y) (h2 : y ≤ x) : y = x := by
  rw [Int32.le_iff_toInt_le] at h h2
  exact Int32.toInt_inj.mp (by omega)
theorem as_m1 : ∀ h, h < 9 → nI h - 1 < nI h := by decide +kernel
/-- a place more: v stored at i -/
theorem as_put {s : Nat → Int32} {i : Nat} {v : Int32} (h : as_Up s i) (hv : ∀ j, j < i → (s j).toInt < v.toInt) : as_Up (upd s i v) (i + 1) := by
  intro j k hj hk
  rw [pk_un (show j ≠ i by omega)]
  by_cases e : k = i
  · rw [e, pk_us]
    exact hv j (by omega)
  · rw [pk_un e]
    exact h j k hj (by omega)
/-- v grows by d and does not run over -/
theorem as_add {v : Int32} {d : Nat} (hd : d < 2 ^ 31) (h : v.toInt + d < 2 ^ 31) : (v + nI d).toInt = v.toInt + d := by
  have e := nI_toInt hd
  have g := v.le_toInt
  rw [Jvm.Kit.i32_add (by omega) (by omega), e]
/-- the step of the script's array: between 1 and 4 times 2^k -/
theorem as_S (x9 : Int32) (k : Nat) (hs : ((x9 &&& 31).toBitVec.smod 32).toNat = k) (hk : 4 * 2 ^ k < 2 ^ 32) (y : Int32) : ∃ d : Nat, 1 ≤ d ∧ d ≤ 4 * 2 ^ k ∧ (1 + (y &&& 3)) <<< (x9 &&& 31) = nI d := by
  obtain ⟨j, hj, e⟩ := pk_andE y (m := 3) 2 (by decide)
  have h4 : (1 + j) * 2 ^ k ≤ 4 * 2 ^ k := Nat.mul_le_mul_right (2 ^ k) (by omega)
  refine ⟨(1 + j) * 2 ^ k, Nat.mul_pos (by omega) (Nat.two_pow_pos k), h4, ?_⟩
  rw [e, show (1 : Int32) + nI j = nI (1 + j) from nI_add 1 j]
  exact pk_shlN _ k hs (Nat.lt_of_le_of_lt h4 hk)
theorem as_v0 (c : Int32) : (c >>> ((1 : Int32) &&& 31)).toInt ≤ 2 ^ 30 := by
  have g := c.toInt_lt
  rw [pk_shr c _ 1 (by decide), Int.shiftRight_eq_div_pow]
  omega
theorem as_v1 (c : Int32) : ((-2147483648) + (c &&& 255)).toInt ≤ -2 ^ 31 + 255 := by
  obtain ⟨j, hj, e⟩ := pk_andE c (m := 255) 8 (by decide)
  have e0 : (-2147483648 : Int32).toInt = -2 ^ 31 := by decide
  rw [e, as_add (by omega) (by rw [e0]; omega), e0]
  omega
end
section
/-- the binary search: the key's place, or -(p + 1) -/
theorem as_x0 {post : Int32 → Prop} {a : Nat → Int32} {N p : Nat} {key : Int32} (hN : N ≤ 8) (hu : as_Up a N) (h : as_At a N key p)
    (H1 : p < N → a p = key → post (nI p)) (H0 : ¬ (p < N ∧ a p = key) → post (-(nI (p + 1)))) : wpX0_indexOfKey post (a, N) key := by
  unfold wpX0_indexOfKey
  dsimp only
  refine nm_r (show Int32.ofNat N - 1 = nI N - 1 from rfl) ?_
  have hA := h
  obtain ⟨h0, h1, h2⟩ := h
  refine lp2 (fun n l g => wX0_indexOfKey_7 post key a N n (nI l) (nI g - 1)) (fun l g => l ≤ p ∧ p ≤ g ∧ g ≤ N ∧ (g < N → ¬ a g ≤ key)) (fun l g => g - l) (fun n l g hI hw => ?_) 0 N ⟨by omega, h0, by omega, fun z => absurd z (by omega)⟩
  obtain ⟨i1, i2, i3, i4⟩ := hI
  show wX0_indexOfKey_7 post key a N (n + 1) (nI l) (nI g - 1)
  by_cases e : l = g
  · have e1 : l = p := by omega
    subst e
    subst e1
    refine br_t (as_m1 l (by omega)) ?_
    rw [nI_1]
    exact H0 (fun z => i4 z.1 (by rw [z.2]; exact Int32.le_iff_toInt_le.mpr (Int.le_refl _)))
  · obtain ⟨q, rfl⟩ : ∃ q, g = q + 1 := ⟨g - 1, by omega⟩
    rw [nI_pred]
    refine pk_lt q l (fun z => absurd z (by omega)) (fun _ => ?_)
    refine nm_r (e' := nI ((l + q) / 2)) (by rw [nI_add]; exact pk_ushrN (by omega) 1 1 (by decide)) ?_
    have m1 : l ≤ (l + q) / 2 := by omega
    have m2 : (l + q) / 2 ≤ q := by omega
    generalize (l + q) / 2 = m at m1 m2 ⊢
    rw [nI_clamp (show m < 2 ^ 31 by omega)]
    refine ⟨pk_in m N (by omega), br_c (fun k => ⟨pk_in m N (by omega), br_c (fun k2 => ?_) (fun k2 => nm_e ?_)⟩) (fun k => nm_r (nI_1 m) ?_)⟩
    · have ek : a m = key := as_anti k k2
      have ep : m = p := as_hit hu hA (by omega) ek
      subst ep
      exact H1 (by omega) ek
    · have t : p ≤ m := Nat.le_of_not_lt (fun z => h1 m z k)
      exact hw l m ⟨i1, t, by omega, fun _ => k2⟩ (by omega)
    · have t : m < p := Nat.lt_of_not_le (fun z => k (h2 m z (by omega)))
      have w : wX0_indexOfKey_7 post key a N n (nI (m + 1)) (nI (q + 1) - 1) := hw (m + 1) (q + 1) ⟨t, i2, i3, i4⟩ (by omega)
      rw [nI_pred] at w
      exact w
/-- the plain count: the same answer -/
theorem as_x1 {post : Int32 → Prop} {a : Nat → Int32} {N p : Nat} {key : Int32} (hN : N ≤ 8) (hu : as_Up a N) (h : as_At a N key p)
    (H1 : p < N → a p = key → post (nI p)) (H0 : ¬ (p < N ∧ a p = key) → post (-(nI (p + 1)))) : wpX1_indexOfKey post (a, N) key := by
  unfold wpX1_indexOfKey
  dsimp only
  have hA := h
  obtain ⟨h0, h1, h2⟩ := h
  refine Exists.elim (pk_loop (fun n i s => wX1_indexOfKey_7 post key a N n (nI (min i p)) s (nI i)) (fun i s => (s = 0 ∧ ¬ (p < i ∧ a p = key)) ∨ (s = 1 ∧ p < i ∧ a p = key)) N 0 (0 : Int32) (by omega) (Or.inl ⟨rfl, fun z => absurd z.1 (by omega)⟩) ?_ ?_) (fun n hn => ⟨n, ?_⟩)
  rotate_left 2
  · have hn' : wX1_indexOfKey_7 post key a N n (nI (min 0 p)) 0 (nI 0) := hn
    rw [Nat.zero_min] at hn'
    exact hn'
  · intro n s hI
    show wX1_indexOfKey_7 post key a N (n + 1) (nI (min N p)) s (nI N)
    rw [show min N p = p by omega]
    refine pk_le N N (fun _ => ?_) (fun z => absurd z (by omega))
    rcases hI with ⟨e, k⟩ | ⟨e, k1, k2⟩
    · exact br_t e (by rw [nI_1]; exact H0 k)
    · exact br_f (by rw [e]; decide) (H1 k1 k2)
  · intro n i s hi hI hw
    have t : ∀ s' : Int32, ((s' = 0 ∧ ¬ (p < i + 1 ∧ a p = key)) ∨ (s' = 1 ∧ p < i + 1 ∧ a p = key)) → wX1_indexOfKey_7 post key a N n (nI (min (i + 1) p)) s' (nI (i + 1)) := hw
    have R : wX1_indexOfKey_25 post (wX1_indexOfKey_7 post key a N n) key (nI (min (i + 1) p)) s (nI i) a N := by
      unfold wX1_indexOfKey_25
      rw [nI_clamp (show i < 2 ^ 31 by omega)]
      refine ⟨pk_in i N hi, br_c (fun k => nm_r (nI_1 i) (t 1 (Or.inr ⟨rfl, ?_, ?_⟩))) (fun k => nm_r (nI_1 i) (t s ?_))⟩
      · have ep := as_hit hu hA hi k
        omega
      · have ep := as_hit hu hA hi k
        rw [← ep]
        exact k
      · rcases hI with ⟨e, z⟩ | ⟨e, z1, z2⟩
        · refine Or.inl ⟨e, fun w => ?_⟩
          by_cases ep : p = i
          · exact k (ep ▸ w.2)
          · exact z ⟨by omega, w.2⟩
        · exact Or.inr ⟨e, by omega, z2⟩
    show wX1_indexOfKey_7 post key a N (n + 1) (nI (min i p)) s (nI i)
    refine pk_le N i (fun z => absurd z (by omega)) (fun _ => ⟨pk_in i N hi, ?_⟩)
    rw [nI_clamp (show i < 2 ^ 31 by omega)]
    refine br_c (fun k => ?_) (fun k => nm_r (nI_1 _) ?_)
    · have z : p ≤ i := Nat.le_of_not_lt (fun z => h1 i z k)
      rw [show min (i + 1) p = min i p by omega] at R
      exact R
    · have z : i < p := Nat.lt_of_not_le (fun z => k (h2 i z hi))
      rw [show min (i + 1) p = min i p + 1 by omega] at R
      exact R
end
section
theorem as_192 {post : Int32 → St0 → Prop} {mc ms kc ks N : Nat} {s : Nat → Int32} (hN : N ≤ 8) (H : post 1 ()) : ∃ n, wL_lawOf_192 post mc ms (nI N) kc ks s N s N n 0 :=
  pk_loop (σ := Unit) (fun n i _ => wL_lawOf_192 post mc ms (nI N) kc ks s N s N n (nI i)) (fun _ _ => True) N 0 () (by omega) trivial
    (fun n _ _ => pk_le N N (fun _ => H) (fun z => absurd z (by omega)))
    (fun n i _ hi _ hw => pk_le N i (fun z => absurd z (by omega)) (fun _ => ⟨pk_in i N hi, pk_in i N hi, br_t rfl (nm_r (nI_1 i) (hw () trivial))⟩))
/-- both searches over one ascending array answer alike -/
theorem as_both {Q : Int32 → Int32 → Prop} {s : Nat → Int32} {N : Nat} {key : Int32} (hN : N ≤ 8) (hu : as_Up s N) (H : ∀ r, Q r r) : wpX0_indexOfKey (fun r => wpX1_indexOfKey (fun t => Q r t) (s, N) key) (s, N) key := by
  obtain ⟨p, hp⟩ := as_ex key hu
  refine as_x0 hN hu hp (fun h1 h2 => ?_) (fun h0 => ?_)
  · exact as_x1 hN hu hp (fun _ _ => H _) (fun z => absurd ⟨h1, h2⟩ z)
  · exact as_x1 hN hu hp (fun z1 z2 => absurd ⟨z1, z2⟩ h0) (fun _ => H _)
theorem as_125 {post : Int32 → St0 → Prop} {mc ms kc ks N D : Nat} {x0 x9 key v0 : Int32} {B : Int} (hN : N ≤ 8) (hD : D < 2 ^ 31) (hB : B + 7 * D < 2 ^ 31) (hv : v0.toInt ≤ B)
    (hS : ∀ y : Int32, ∃ d : Nat, 1 ≤ d ∧ d ≤ D ∧ (1 + (y &&& 3)) <<< (x9 &&& 31) = nI d) (H : post 1 ()) : ∃ n, wL_lawOf_125 post mc ms x0 (nI N) x9 key kc ks N N n v0 0 (fun _ => 0) (fun _ => 0) := by
  refine pk_loop (fun n i s => wL_lawOf_125 post mc ms x0 (nI N) x9 key kc ks N N n s.1 (nI i) s.2 s.2) (fun i s => as_Up s.2 i ∧ (i ≤ 7 → s.1.toInt ≤ B + ((i * D : Nat) : Int) ∧ ∀ j, j < i → (s.2 j).toInt < s.1.toInt)) N 0 ((v0, fun _ => 0) : Int32 × (Nat → Int32)) (by omega) ⟨fun i j _ hj => absurd hj (by omega), fun _ => ⟨by dsimp only; omega, fun j hj => absurd hj (by omega)⟩⟩ ?_ ?_
  · intro n s hI
    exact pk_le N N (fun _ => as_both (Q := fun r t => (r = t → (∃ fu192 : Nat, wL_lawOf_192 post mc ms (nI N) kc ks s.2 N s.2 N fu192 0)) ∧ (¬ r = t → post 0 ())) hN hI.1 (fun r => br_t rfl (as_192 hN H))) (fun z => absurd z (by omega))
  · intro n i s hi hI hw
    obtain ⟨v, s⟩ := s
    obtain ⟨hu, hI⟩ := hI
    obtain ⟨b1, b2⟩ := hI (by omega)
    have t : ∀ (v' : Int32) (s' : Nat → Int32), (as_Up s' (i + 1) ∧ (i + 1 ≤ 7 → v'.toInt ≤ B + (((i + 1) * D : Nat) : Int) ∧ ∀ j, j < i + 1 → (s' j).toInt < v'.toInt)) → wL_lawOf_125 post mc ms x0 (nI N) x9 key kc ks N N n v' (nI (i + 1)) s' s' := fun v' s' h => hw (v', s') h
    show wL_lawOf_125 post mc ms x0 (nI N) x9 key kc ks N N (n + 1) v (nI i) s s
    obtain ⟨d, d1, d2, ed⟩ := hS ((x0.toUInt32 >>> ((2 * nI i).toUInt32 &&& Int32.toUInt32 31)).toInt32)
    refine pk_le N i (fun z => absurd z (by omega)) (fun _ => ⟨pk_in i N hi, nm_r (e' := upd s i v) (by rw [nI_clamp (by omega)]) ⟨pk_in i N hi, nm_r (e' := upd s i v) (by rw [nI_clamp (by omega)]) (nm_r (e' := v + nI d) (by rw [ed]) (nm_r (nI_1 i) (t _ _ ⟨as_put hu b2, fun z => ?_⟩)))⟩⟩)
    have c1 : v.toInt ≤ B + ((i * D : Nat) : Int) := b1
    have c2 : (i + 1) * D = i * D + D := Nat.succ_mul i D
    have c3 : (i + 1) * D ≤ 7 * D := Nat.mul_le_mul_right D z
    have e : (v + nI d).toInt = v.toInt + d := as_add (by omega) (by omega)
    rw [e]
    refine ⟨by omega, fun j hj => ?_⟩
    by_cases ej : j = i
    · rw [ej, pk_us]
      omega
    · rw [pk_un ej]
      have c4 : (s j).toInt < v.toInt := b2 j (by omega)
      omega
theorem as_71 {post : Int32 → St0 → Prop} {mc ms kc ks n1 n2 : Nat} {x0 x3 x4 x7 x8 z0 : Int32} {s1 s2 : Nat → Int32} (T : ∀ key, ∃ n, wL_lawOf_125 post mc ms x0 x4 z0 key kc ks n1 n2 n x8 0 s1 s2) : wL_lawOf_71 post mc ms x0 x3 x4 x7 x8 z0 kc ks s1 n1 s2 n2 :=
  ⟨fun _ => ⟨fun _ x _ => T x, fun _ x _ => T x⟩, fun _ x _ => T x⟩
theorem as_37 {post : Int32 → St0 → Prop} {mc ms kc ks N : Nat} {x0 x1 x3 z0 : Int32} (hN : N ≤ 8) (H : post 1 ()) : wL_lawOf_37 post mc ms x0 x1 x3 (nI N) z0 kc ks (fun _ => 0) N (fun _ => 0) N :=
  br_c (fun h => br_t h (as_71 (fun key => as_125 (D := 4 * 2 ^ 0) (B := 2 ^ 30) hN (by omega) (by omega) (as_v0 x1) (as_S 0 0 (by decide) (by omega)) H)))
    (fun h => br_f h (as_71 (fun key => as_125 (D := 4 * 2 ^ 27) (B := -2 ^ 31 + 255) hN (by omega) (by omega) (as_v1 x1) (as_S 27 27 (by decide) (by omega)) H)))
theorem as_lawOf {post : Int32 → St0 → Prop} (a c n k : Int32) (H : post 1 ()) : wpL_lawOf post 6 96 () a c n k := by
  unfold wpL_lawOf
  obtain ⟨i, hi, ei⟩ := pk_andE n (m := 7) 3 (by decide)
  obtain ⟨j, hj, ej⟩ := pk_andE ((n.toUInt32 >>> ((3 : Int32).toUInt32 &&& Int32.toUInt32 31)).toInt32) (m := 1) 1 (by decide)
  refine nm_r (e' := nI (i + j)) (by rw [ei, ej, nI_add]) ?_
  exact ⟨nI_pos (by omega), nm_r (nI_clamp (by omega)) ⟨by omega, by omega, by omega, nI_pos (by omega), nm_r (nI_clamp (by omega)) ⟨by omega, by omega, by omega, br_c (fun _ => as_37 (by omega) H) (fun _ => as_37 (by omega) H)⟩⟩⟩
theorem as_cell {post : Int32 → Prop} {L : Nat} {xs : Nat → Int32} (hL : L ≤ 4) (x : Int32) (k : Nat) (hx : x = nI k) (hk : k < 4) (H : ∀ r, post r) : wpL_cellAt post L xs () x := by
  subst hx
  exact pk_le L k (fun _ => H _) (fun z => ⟨pk_in k L z, H _⟩)
theorem i_vc (xs : Nat → Int32) (L : Nat) (hL : L ≤ 4) : wpL_law (fun r => r = 1) L xs :=
  as_cell hL 0 0 rfl (by omega) (fun r1 => as_cell hL 1 1 rfl (by omega) (fun r2 => as_cell hL 2 2 rfl (by omega) (fun r3 => as_cell hL 3 3 rfl (by omega) (fun r4 => ⟨6, 96, by omega, by omega, as_lawOf r1 r2 r3 r4 rfl⟩))))
end
