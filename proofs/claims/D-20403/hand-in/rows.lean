section
/-- the first n places of a rise -/
def fs_up (a : Nat → Int32) (n : Nat) : Prop := ∀ p q, p < q → q < n → (a p).toInt < (a q).toInt
/-- k is the place of x: what stands before it is below x, what stands from it on is not -/
def fs_at (a : Nat → Int32) (n : Nat) (x : Int32) (k : Nat) : Prop := k ≤ n ∧ (∀ j, j < k → (a j).toInt < x.toInt) ∧ (∀ j, k ≤ j → j < n → x.toInt ≤ (a j).toInt)
/-- what both methods answer, k the place of x -/
def fs_res (a : Nat → Int32) (n : Nat) (x : Int32) (k : Nat) : Int32 := if k < n ∧ a k = x then nI k else -nI k - 1
/-- how many of the first i places hold x -/
def fs_eq (a : Nat → Int32) (x : Int32) (k i : Nat) : Nat := if k < i ∧ a k = x then 1 else 0
theorem fs_ex (a : Nat → Int32) (n : Nat) (x : Int32) (h : fs_up a n) : ∃ k, fs_at a n x k := by
  induction n with
  | zero => exact ⟨0, Nat.le_refl 0, fun j hj => absurd hj (by omega), fun j _ hj => absurd hj (by omega)⟩
  | succ n ih =>
    obtain ⟨k, h1, h2, h3⟩ := ih (fun p q hp hq => h p q hp (by omega))
    by_cases hx : (a n).toInt < x.toInt
    · refine ⟨n + 1, Nat.le_refl _, fun j hj => ?_, fun j h4 h5 => absurd h4 (by omega)⟩
      by_cases e : j = n
      · rw [e]
        exact hx
      · have := h j n (by omega) (by omega)
        omega
    · refine ⟨k, by omega, h2, fun j hj hn => ?_⟩
      by_cases e : j = n
      · rw [e]
        omega
      · exact h3 j hj (by omega)
/-- a rising array holds x, if at all, at the place of x -/
theorem fs_only {a : Nat → Int32} {n k m : Nat} {x : Int32} (hu : fs_up a n) (hk : fs_at a n x k) (hm : m < n) (he : (a m).toInt = x.toInt) : m = k := by
  obtain ⟨h1, h2, h3⟩ := hk
  rcases Nat.lt_trichotomy m k with g | g | g
  · have := h2 m g
    omega
  · exact g
  · have t1 := hu k m g hm
    have t2 := h3 k (Nat.le_refl k) (by omega)
    omega
theorem fs_lt : ∀ h, h < 8 → ∀ l, l < 8 → (nI h - 1 < nI l ↔ h ≤ l) := by decide +kernel
theorem fs_mid : ∀ l, l < 8 → ∀ h, h < 8 → l < h → ((nI l + (nI h - 1)).toUInt32 >>> ((1 : Int32).toUInt32 &&& Int32.toUInt32 31)).toInt32 = nI ((l + h - 1) / 2) := by decide +kernel
theorem fs_not : ∀ k, k < 8 → nI k ^^^ (-1) = -nI k - 1 := by decide +kernel
theorem fs_le {x y : Int32} : x ≤ y ↔ x.toInt ≤ y.toInt := Int32.le_iff_toInt_le
theorem fs_step {x : Int32} {j : Nat} (h1 : -8388608 ≤ x.toInt) (h2 : x.toInt ≤ 16777216) (hj : j < 8) : (x + 1 + nI j).toInt = x.toInt + 1 + j := by
  have e1 : (x + 1).toInt = x.toInt + 1 := by
    rw [Int32.toInt_add, show (1 : Int32).toInt = 1 from rfl]
    exact Int.bmod_eq_of_le (by omega) (by omega)
  rw [Int32.toInt_add, e1, nI_toInt (by omega)]
  exact Int.bmod_eq_of_le (by omega) (by omega)
theorem fs_base (x : Int32) : -8388608 ≤ (x >>> ((8 : Int32) &&& 31)).toInt ∧ (x >>> ((8 : Int32) &&& 31)).toInt ≤ 8388608 := by
  rw [pk_shr x ((8 : Int32) &&& 31) 8 (by decide), Int.shiftRight_eq_div_pow]
  have h1 := Int32.le_toInt x
  have h2 := Int32.toInt_lt x
  omega
/-- what the law's loop keeps: i places are written, they rise, none is above the running number x, and x has room -/
def fs_I (i : Nat) (x : Int32) (a : Nat → Int32) : Prop := fs_up a i ∧ (∀ p, p < i → (a p).toInt ≤ x.toInt) ∧ -8388608 ≤ x.toInt ∧ x.toInt ≤ 8388608 + 8 * i
theorem fs_I0 {x : Int32} {a : Nat → Int32} (h : -8388608 ≤ x.toInt ∧ x.toInt ≤ 8388608) : fs_I 0 x a :=
  ⟨fun p q _ hq => absurd hq (by omega), fun p hp => absurd hp (by omega), h.1, by omega⟩
theorem fs_Is {i c j : Nat} {x : Int32} {a : Nat → Int32} (hc : c = i) (hi : i < 8) (hj : j < 8) (h : fs_I i x a) : fs_I (i + 1) (x + 1 + nI j) (upd a c (x + 1 + nI j)) := by
  obtain ⟨h1, h2, h3, h4⟩ := h
  subst hc
  have e := fs_step h3 (by omega) hj
  refine ⟨fun p q hp hq => ?_, fun p hp => ?_, by omega, by omega⟩
  · rw [pk_un (show p ≠ c by omega)]
    by_cases g : q = c
    · rw [g, pk_us, e]
      have := h2 p (by omega)
      omega
    · rw [pk_un g]
      exact h1 p q hp (by omega)
  · by_cases g : p = c
    · rw [g, pk_us]
      exact Int.le_refl _
    · rw [pk_un g, e]
      have := h2 p (by omega)
      omega
end
section
/-- the class's search by halves -/
theorem fs_x0 {post : Int32 → Prop} {a : Nat → Int32} {n k : Nat} {x : Int32} (hn : n ≤ 7) (hu : fs_up a n) (hk : fs_at a n x k) (hp : post (fs_res a n x k)) : wpX0_placeIn post (a, n) x := by
  have loop : ∃ fu, wX0_placeIn_7 post x a n fu (nI 0) (nI n - 1) := by
    refine lp2 (fun fu l h => wX0_placeIn_7 post x a n fu (nI l) (nI h - 1)) (fun l h => l ≤ k ∧ k ≤ h ∧ h ≤ n ∧ ∀ j, h ≤ j → j < n → x.toInt < (a j).toInt) (fun l h => h - l) ?_ 0 n ⟨Nat.zero_le k, hk.1, Nat.le_refl n, fun j h1 h2 => absurd h1 (by omega)⟩
    intro fu l h hI hw
    obtain ⟨i1, i2, i3, i4⟩ := hI
    have hkn := hk.1
    refine br_c (fun z => ?_) (fun z => ?_)
    · have z' : h ≤ l := (fs_lt h (by omega) l (by omega)).mp z
      have el : l = k := by omega
      have ne : ¬ (k < n ∧ a k = x) := by
        intro t
        have t2 := i4 k (by omega) t.1
        rw [t.2] at t2
        omega
      rw [fs_res, if_neg ne] at hp
      rw [el, fs_not k (by omega)]
      exact hp
    · have z' : l < h := by
        rcases Nat.lt_or_ge l h with g | g
        · exact g
        · exact absurd ((fs_lt h (by omega) l (by omega)).mpr g) z
      refine nm_r (fs_mid l (by omega) h (by omega) z') ?_
      have m1 : l ≤ (l + h - 1) / 2 := by omega
      have m2 : (l + h - 1) / 2 < h := by omega
      generalize (l + h - 1) / 2 = m at m1 m2 ⊢
      rw [nI_clamp (show m < 2 ^ 31 by omega)]
      refine ⟨pk_in m n (by omega), br_c (fun g => ⟨pk_in m n (by omega), br_c (fun g2 => ?_) (fun g2 => nm_e ?_)⟩) (fun g => nm_r (nI_1 m) ?_)⟩
      · have c1 := fs_le.mp g
        have c2 := fs_le.mp g2
        have em : m = k := fs_only hu hk (by omega) (by omega)
        have ea : a k = x := by
          rw [← em]
          exact Int32.toInt_inj.mp (by omega)
        rw [fs_res, if_pos ⟨by omega, ea⟩] at hp
        rw [em]
        exact hp
      · have c2 : x.toInt < (a m).toInt := by
          rcases Int.lt_or_le x.toInt (a m).toInt with t | t
          · exact t
          · exact absurd (fs_le.mpr t) g2
        refine hw l m ⟨i1, ?_, by omega, fun j h1 h2 => ?_⟩ (by omega)
        · rcases Nat.lt_or_ge m k with t | t
          · have := hk.2.1 m t
            omega
          · exact t
        · by_cases e : j = m
          · rw [e]
            exact c2
          · have := hu m j (by omega) h2
            omega
      · have c2 : (a m).toInt < x.toInt := by
          rcases Int.lt_or_le (a m).toInt x.toInt with t | t
          · exact t
          · exact absurd (fs_le.mpr t) g
        refine hw (m + 1) h ⟨?_, i2, i3, i4⟩ (by omega)
        rcases Nat.lt_or_ge m k with t | t
        · exact t
        · have := hk.2.2 m t (by omega)
          omega
  exact nm_e loop
/-- the plain count -/
theorem fs_x1 {post : Int32 → Prop} {a : Nat → Int32} {n k : Nat} {x : Int32} (hn : n ≤ 7) (hu : fs_up a n) (hk : fs_at a n x k) (hp : post (fs_res a n x k)) : wpX1_placeIn post (a, n) x := by
  have hkn := hk.1
  have e1 : ∀ i, fs_eq a x k i ≤ 1 := by
    intro i
    unfold fs_eq
    split <;> omega
  have loop : ∃ fu, wX1_placeIn_7 post x a n fu (nI (min 0 k)) (nI (fs_eq a x k 0)) (nI 0) := by
    refine pk_loop (σ := Unit) (fun fu i _ => wX1_placeIn_7 post x a n fu (nI (min i k)) (nI (fs_eq a x k i)) (nI i)) (fun _ _ => True) n 0 () (Nat.zero_le n) trivial ?_ ?_
    · intro fu _ _
      have h1 := e1 n
      have emin : min n k = k := by omega
      refine pk_le n n (fun _ => pk_le (fs_eq a x k n) 0 (fun z => ?_) (fun z => ?_)) (fun z => absurd z (by omega))
      · have ne : ¬ (k < n ∧ a k = x) := by
          intro t
          rw [fs_eq, if_pos t] at z
          omega
        rw [fs_res, if_neg ne] at hp
        rw [emin]
        exact hp
      · have ye : k < n ∧ a k = x := by
          by_cases t : k < n ∧ a k = x
          · exact t
          · rw [fs_eq, if_neg t] at z
            omega
        rw [fs_res, if_pos ye] at hp
        rw [emin]
        exact hp
    · intro fu i _ hi _ hw
      have h1 := e1 i
      have t : wX1_placeIn_7 post x a n fu (nI (min (i + 1) k)) (nI (fs_eq a x k (i + 1))) (nI (i + 1)) := hw () trivial
      refine pk_le n i (fun z => absurd z (by omega)) (fun _ => ⟨pk_in i n hi, ?_⟩)
      have ci : (nI i).toNatClampNeg = i := nI_clamp (by omega)
      rcases Nat.lt_trichotomy i k with g | g | g
      · have c := hk.2.1 i g
        have en : fs_eq a x k (i + 1) = fs_eq a x k i := by
          rw [fs_eq, if_neg (by omega), fs_eq, if_neg (by omega)]
        rw [en, show min (i + 1) k = min i k + 1 by omega] at t
        refine br_f (fun z => ?_) (nm_r (nI_1 _) ⟨pk_in i n hi, br_f (fun z => ?_) (nm_r (nI_1 i) t)⟩)
        · rw [ci] at z
          have := fs_le.mp z
          omega
        · rw [ci] at z
          rw [z] at c
          omega
      · subst g
        have c := hk.2.2 i (Nat.le_refl i) hi
        have en : fs_eq a x i i = 0 := by rw [fs_eq, if_neg (by omega)]
        rw [show min (i + 1) i = min i i by omega] at t
        refine br_t (by rw [ci]; exact fs_le.mpr c) ⟨pk_in i n hi, br_c (fun z => ?_) (fun z => ?_)⟩
        · rw [ci] at z
          rw [fs_eq, if_pos ⟨Nat.lt_succ_self i, z⟩] at t
          rw [en]
          exact nm_r (nI_1 0) (nm_r (nI_1 i) t)
        · rw [ci] at z
          rw [fs_eq, if_neg (fun y => z y.2)] at t
          rw [en]
          exact nm_r (nI_1 i) t
      · have c := hk.2.2 i (by omega) hi
        have ne : ¬ a i = x := by
          intro y
          have := fs_only hu hk hi (by rw [y])
          omega
        have en : fs_eq a x k (i + 1) = fs_eq a x k i := by
          unfold fs_eq
          by_cases y : a k = x
          · rw [if_pos ⟨by omega, y⟩, if_pos ⟨g, y⟩]
          · rw [if_neg (fun w => y w.2), if_neg (fun w => y w.2)]
        rw [en, show min (i + 1) k = min i k by omega] at t
        exact br_t (by rw [ci]; exact fs_le.mpr c) ⟨pk_in i n hi, br_f (by rw [ci]; exact ne) (nm_r (nI_1 i) t)⟩
  obtain ⟨fu, h⟩ := loop
  rw [Nat.zero_min, show fs_eq a x k 0 = 0 by rw [fs_eq, if_neg (by omega)]] at h
  exact ⟨fu, h⟩
theorem fs_106 {post : Int32 → St0 → Prop} {mc ms kc ks n : Nat} {z : Int32} {a : Nat → Int32} (hn : n ≤ 7) (hu : fs_up a n) (hp : post 1 ()) : wL_lawOf_106 post mc ms z kc ks a n := by
  obtain ⟨k, hk⟩ := fs_ex a n z hu
  unfold wL_lawOf_106
  exact fs_x0 hn hu hk (fs_x1 hn hu hk (br_t rfl hp))
theorem fs_67 {post : Int32 → St0 → Prop} {mc ms kc ks n : Nat} {y z : Int32} {a : Nat → Int32} (hn : n ≤ 7) (hu : fs_up a n) (hp : post 1 ()) : wL_lawOf_67 post mc ms y z kc ks a n := by
  unfold wL_lawOf_67
  exact fs_106 hn hu hp
theorem fs_rem (x : Int32) {n : Nat} (h0 : 0 < n) (hn : n ≤ 7) : ∃ r, r < n ∧ (x &&& 7) - (x &&& 7) / nI n * nI n = nI r := by
  obtain ⟨j, hj, e⟩ := pk_andE x 3 (m := 7) (by decide)
  refine ⟨j % n, Nat.mod_lt j h0, ?_⟩
  rw [e]
  exact pk_rem (by omega) h0 (by omega)
theorem fs_17 {post : Int32 → St0 → Prop} {mc ms kc ks n : Nat} {g y z x : Int32} {a : Nat → Int32} (hn : n ≤ 7) (hI : fs_I 0 x a) (hp : post 1 ()) : ∃ fu, wL_lawOf_17 post mc ms g y z kc ks n fu x 0 a := by
  refine pk_loop (σ := Int32 × (Nat → Int32)) (fun fu i s => wL_lawOf_17 post mc ms g y z kc ks n fu s.1 (nI i) s.2) (fun i s => fs_I i s.1 s.2) n 0 (x, a) (Nat.zero_le n) hI ?_ ?_
  · intro fu s h
    have hu : fs_up s.2 n := h.1
    refine pk_le n n (fun _ => pk_eq n 0 (fun _ => fs_67 hn hu hp) (fun c => br_c (fun _ => ?_) (fun _ => fs_67 hn hu hp))) (fun c => absurd c (by omega))
    obtain ⟨r, hr, e⟩ := fs_rem z (show 0 < n by omega) hn
    exact ⟨nI_ne0 (by omega) (by omega), pk_in r n hr e, by decide, by decide, fs_106 hn hu hp⟩
  · intro fu i s hi h hw
    refine pk_le n i (fun c => absurd c (by omega)) (fun _ => ?_)
    obtain ⟨j, hj, e⟩ := pk_andE ((g.toUInt32 >>> ((3 * nI i).toUInt32 &&& Int32.toUInt32 31)).toInt32) 3 (m := 7) (by decide)
    refine nm_r (congrArg (fun t => (s.1 + 1) + t) e) ⟨pk_in i n hi, nm_e (nm_r (nI_1 i) ?_)⟩
    exact hw (_, _) (fs_Is (nI_clamp (by omega)) (by omega) hj h)
theorem fs_law (p0 p1 p2 p3 : Int32) : wpL_lawOf (fun r _ => r = 1) 1 7 () p0 p1 p2 p3 := by
  obtain ⟨j, hj, e⟩ := pk_andE p1 3 (m := 7) (by decide)
  unfold wpL_lawOf
  rw [e]
  exact ⟨nI_pos (by omega), nm_r (nI_clamp (by omega)) ⟨by omega, by omega, by omega, nm_e (fs_17 (by omega) (fs_I0 (fs_base p2)) rfl)⟩⟩
theorem fs_cell {post : Int32 → Prop} {L : Nat} {xs : Nat → Int32} (i : Nat) (hi : i < 4) (hL : L ≤ 4) (h : ∀ v, post v) : wpL_cellAt post L xs () (nI i) :=
  pk_le L i (fun _ => h 0) (fun z => ⟨pk_in i L z, h _⟩)
end
section
theorem i_vc (xs : Nat → Int32) (L : Nat) (hL : L ≤ 4) : wpL_law (fun r => r = 1) L xs :=
  fs_cell 0 (by omega) hL (fun r1 => fs_cell 1 (by omega) hL (fun r2 => fs_cell 2 (by omega) hL (fun r3 => fs_cell 3 (by omega) hL (fun r4 => ⟨1, 7, by omega, by omega, fs_law r1 r2 r3 r4⟩))))
end
