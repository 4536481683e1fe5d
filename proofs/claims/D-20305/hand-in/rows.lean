section
/-- the stock when the first k places have been taken -/
def ds_T (a w : Nat → Int32) (k : Nat) : Nat → Int32 := fun j => if j < k then a j - w j else a j
/-- the stock when the places from d up to k have been taken -/
def ds_U (a w : Nat → Int32) (d k : Nat) : Nat → Int32 := fun j => if d ≤ j ∧ j < k then a j - w j else a j
/-- what is wanted at each place below k is nothing, or there is enough of it -/
def ds_ok (a w : Nat → Int32) (k : Nat) : Prop := ∀ j, j < k → w j = 0 ∨ (0 ≤ w j ∧ w j ≤ a j)
theorem ds_T0 (a w : Nat → Int32) : a = ds_T a w 0 := by
  funext j
  exact (if_neg (by omega)).symm
theorem ds_Ti (a w : Nat → Int32) (i : Nat) : ds_T a w i i = a i := if_neg (by omega)
theorem ds_Ts (a w : Nat → Int32) (i : Nat) : upd (ds_T a w i) i (a i - w i) = ds_T a w (i + 1) := by
  funext j
  by_cases e : j = i
  · rw [e, pk_us]
    exact (if_pos (by omega)).symm
  · rw [pk_un e]
    by_cases h : j < i
    · exact (if_pos h).trans (if_pos (show j < i + 1 by omega)).symm
    · exact (if_neg h).trans (if_neg (show ¬ j < i + 1 by omega)).symm
theorem ds_Uk (a w : Nat → Int32) (k : Nat) : a = ds_U a w k k := by
  funext j
  exact (if_neg (by omega)).symm
theorem ds_Ui (a w : Nat → Int32) (d k : Nat) : ds_U a w (d + 1) k d = a d := if_neg (by omega)
theorem ds_Us (a w : Nat → Int32) {d k : Nat} (hd : d < k) : upd (ds_U a w (d + 1) k) d (a d - w d) = ds_U a w d k := by
  funext j
  by_cases e : j = d
  · rw [e, pk_us]
    exact (if_pos (by omega)).symm
  · rw [pk_un e]
    by_cases h : d + 1 ≤ j ∧ j < k
    · exact (if_pos h).trans (if_pos (show d ≤ j ∧ j < k by omega)).symm
    · exact (if_neg h).trans (if_neg (show ¬ (d ≤ j ∧ j < k) by omega)).symm
theorem ds_UT (a w : Nat → Int32) (k : Nat) : ds_U a w 0 k = ds_T a w k := by
  funext j
  by_cases h : j < k
  · exact (if_pos (show 0 ≤ j ∧ j < k by omega)).trans (if_pos h).symm
  · exact (if_neg (show ¬ (0 ≤ j ∧ j < k) by omega)).trans (if_neg h).symm
theorem ds_u0 (s : Nat → Int32) (i : Nat) : upd s i (s i - 0) = s := by
  funext j
  by_cases e : j = i
  · rw [e, pk_us, Int32.sub_zero]
  · rw [pk_un e]
/-- reserve: nothing is wanted, or there is enough -/
theorem ds_reserve {post : St2 → Prop} {s : Nat → Int32} {n0 i : Nat} {v : Int32} (hi : i < n0) (hn : n0 ≤ 8) (hv : v = 0 ∨ (0 ≤ v ∧ v ≤ s i)) (H : post (upd s i (s i - v), n0)) : wpX0_reserve post (s, n0) (nI i) v := by
  by_cases h0 : v = 0
  · refine br_t h0 ?_
    rw [h0, ds_u0] at H
    exact H
  · obtain ⟨h1, h2⟩ : 0 ≤ v ∧ v ≤ s i := hv.resolve_left h0
    refine br_f h0 ?_
    unfold wpX0_take
    dsimp only
    rw [nI_clamp (show i < 2 ^ 31 by omega)]
    exact br_t h1 ⟨pk_in i n0 hi, br_t h2 ⟨pk_in i n0 hi, pk_in i n0 hi, nm_e H⟩⟩
/-- ship: every place is taken -/
theorem ds_ship {post : Int32 → St1 → Prop} {a w : Nat → Int32} {n0 k : Nat} (hk : k ≤ n0) (hn : n0 ≤ 8) (ok : ds_ok a w k) (H : post (nI k) (ds_T a w k, n0, w, k)) : ∃ n, wX0_ship_4 post n 0 0 a n0 w k := by
  refine pk_loop (fun n i s => wX0_ship_4 post n (nI i) (nI i) s n0 w k) (fun i s => s = ds_T a w i) k 0 a (by omega) (ds_T0 a w) ?_ ?_
  · intro n s h
    subst h
    exact pk_le k k (fun _ => H) (fun z => absurd z (by omega))
  · intro n i s hi h hw
    subst h
    have hw' : wX0_ship_4 post n (nI (i + 1)) (nI (i + 1)) (ds_T a w (i + 1)) n0 w k := hw _ rfl
    refine pk_le k i (fun z => absurd z (by omega)) (fun _ => ⟨pk_in i k hi, ?_⟩)
    rw [nI_clamp (show i < 2 ^ 31 by omega)]
    refine ds_reserve (by omega) hn ?_ ?_
    · rw [ds_Ti]
      exact ok i hi
    · rw [ds_Ti, ds_Ts]
      exact nm_r (nI_1 i) (nm_r (nI_1 i) hw')
theorem ds_x0 {post : Int32 → St1 → Prop} {a w : Nat → Int32} {n0 k : Nat} (hk : k ≤ n0) (hn : n0 ≤ 8) (ok : ds_ok a w k) (H : post (nI k) (ds_T a w k, n0, w, k)) : wpX0_takeWanted post (a, n0, w, k) := by
  unfold wpX0_takeWanted
  dsimp only
  unfold wpX0_ship
  dsimp only
  exact ds_ship hk hn ok (br_t rfl H)
/-- the plain form: every place is taken, from the last to the first -/
theorem ds_x1 {post : Int32 → St1 → Prop} {a w : Nat → Int32} {n0 k : Nat} (hk : k ≤ n0) (hn : n0 ≤ 8) (H : post (nI k) (ds_T a w k, n0, w, k)) : wpX1_takeWanted post (a, n0, w, k) := by
  unfold wpX1_takeWanted
  dsimp only
  refine nm_r (e' := nI k - 1) rfl ⟨k + 1, ?_⟩
  have t := pk_loopD (fun n d s => wX1_takeWanted_7 post n0 k n (nI (k - d)) (nI d - 1) s w) (fun d s => d ≤ k ∧ s = ds_U a w d k) ?_ ?_ k a ⟨Nat.le_refl k, ds_Uk a w k⟩
  · have t' : wX1_takeWanted_7 post n0 k (k + 1) (nI (k - k)) (nI k - 1) a w := t
    rw [Nat.sub_self] at t'
    exact t'
  · rintro n s ⟨_, rfl⟩
    show wX1_takeWanted_7 post n0 k (n + 1) (nI (k - 0)) (nI 0 - 1) (ds_U a w 0 k) w
    rw [ds_UT, Nat.sub_zero]
    exact br_t (by decide) H
  · rintro n d s ⟨hd, rfl⟩ hw
    have hw' : wX1_takeWanted_7 post n0 k n (nI (k - d)) (nI d - 1) (ds_U a w d k) w := hw _ ⟨by omega, rfl⟩
    show wX1_takeWanted_7 post n0 k (n + 1) (nI (k - (d + 1))) (nI (d + 1) - 1) (ds_U a w (d + 1) k) w
    rw [nI_pred]
    refine br_f (nI_pos (by omega)) ⟨pk_in d n0 (by omega), pk_in d k hd, pk_in d n0 (by omega), ?_⟩
    rw [nI_clamp (show d < 2 ^ 31 by omega), ds_Ui, ds_Us a w hd]
    refine nm_e (nm_r ((nI_1 _).trans (congrArg nI (show k - (d + 1) + 1 = k - d by omega))) (nm_r (e' := nI d - 1) ?_ hw'))
    rw [Int32.sub_eq_add_neg]
end
section
/-- the law's last loop: equal arrays -/
theorem ds_225 {post : Int32 → St0 → Prop} {mc ms kc ks k : Nat} {w : Nat → Int32} (hk : k ≤ 8) (H : post 1 ()) : ∃ n, wL_lawOf_225 post mc ms (nI k) kc ks w k w k n 0 :=
  pk_loop (σ := Unit) (fun n i _ => wL_lawOf_225 post mc ms (nI k) kc ks w k w k n (nI i)) (fun _ _ => True) k 0 () (by omega) trivial
    (fun n _ _ => pk_le k k (fun _ => H) (fun z => absurd z (by omega)))
    (fun n i _ hi _ hw => pk_le k i (fun z => absurd z (by omega)) (fun _ => ⟨pk_in i k hi, pk_in i k hi, br_t rfl (nm_r (nI_1 i) (hw () trivial))⟩))
theorem ds_194 {post : Int32 → St0 → Prop} {mc ms kc ks r k : Nat} {a w : Nat → Int32} (hr : r ≤ 8) (hk : k ≤ 8) (H : post 1 ()) : ∃ n, wL_lawOf_194 post mc ms (nI r) (nI k) kc ks a r a r w k w k n 0 :=
  pk_loop (σ := Unit) (fun n i _ => wL_lawOf_194 post mc ms (nI r) (nI k) kc ks a r a r w k w k n (nI i)) (fun _ _ => True) r 0 () (by omega) trivial
    (fun n _ _ => pk_le r r (fun _ => ds_225 hk H) (fun z => absurd z (by omega)))
    (fun n i _ hi _ hw => pk_le r i (fun z => absurd z (by omega)) (fun _ => ⟨pk_in i r hi, pk_in i r hi, br_t rfl (nm_r (nI_1 i) (hw () trivial))⟩))
/-- the tail of the filling loop's body: where nothing is wanted the stock may be any int -/
theorem ds_142 {post : Int32 → St0 → Prop} {mc ms kc ks r k i : Nat} {J : Int32 → (Nat → Int32) → (Nat → Int32) → (Nat → Int32) → (Nat → Int32) → Prop} {x0 x1 x2 x4 x5 z q : Int32} {a w : Nat → Int32} (hi : i < r) (hr : r ≤ 8)
    (H : ∀ a', (a' = a ∨ (z = 0 ∧ a' = upd a i x2)) → J (nI (i + 1)) a' a' w w) : wL_lawOf_142 post mc ms J x0 x1 x2 x4 x5 (nI i) z q kc ks a r a r w k w k := by
  unfold wL_lawOf_142
  rw [nI_clamp (show i < 2 ^ 31 by omega)]
  exact br_c (fun hz => br_c (fun _ => ⟨pk_in i r hi, nm_e ⟨pk_in i r hi, nm_e (nm_r (nI_1 i) (H _ (Or.inr ⟨hz, rfl⟩)))⟩⟩) (fun _ => nm_r (nI_1 i) (H _ (Or.inl rfl)))) (fun _ => nm_r (nI_1 i) (H _ (Or.inl rfl)))
/-- the filling loop's body, from the wanted number on -/
theorem ds_88 {post : Int32 → St0 → Prop} {mc ms kc ks r k i m : Nat} {J : Int32 → (Nat → Int32) → (Nat → Int32) → (Nat → Int32) → (Nat → Int32) → Prop} {x0 x1 x2 x4 : Int32} {a w : Nat → Int32} (hi : i < r) (hr : r ≤ 8) (hk : k ≤ 8) (hm : m < 65536) (ok : ∀ j, j < i → j < k → w j = 0 ∨ (0 ≤ w j ∧ w j ≤ a j))
    (H : ∀ a' w', (∀ j, j < i + 1 → j < k → w' j = 0 ∨ (0 ≤ w' j ∧ w' j ≤ a' j)) → J (nI (i + 1)) a' a' w' w') : wL_lawOf_88 post mc ms J x0 x1 x2 x4 (nI k) (nI i) (nI m) kc ks a r a r w k w k := by
  unfold wL_lawOf_88
  obtain ⟨q, hq, eq⟩ := pk_andE ((x1.toUInt32 >>> ((4 * nI i).toUInt32 &&& Int32.toUInt32 31)).toInt32) (m := 15) 4 (by decide)
  rw [nI_clamp (show i < 2 ^ 31 by omega)]
  refine nm_r eq ⟨pk_in i r hi, nm_e ⟨pk_in i r hi, nm_e ?_⟩⟩
  rw [nI_add]
  refine pk_le k i (fun z => ?_) (fun z => ⟨pk_in i k z, nm_e ⟨pk_in i k z, nm_e ?_⟩⟩)
  · refine ds_142 hi hr (fun a' ha => H a' w (fun j hj hjk => ?_))
    have hji : j ≠ i := by omega
    have ea : a' j = a j := by
      rcases ha with rfl | ⟨_, rfl⟩
      · exact pk_un hji
      · rw [pk_un hji, pk_un hji]
    rw [ea]
    exact ok j (by omega) hjk
  · refine ds_142 hi hr (fun a' ha => H a' _ (fun j hj hjk => ?_))
    by_cases e : j = i
    · rw [e, pk_us]
      rcases ha with rfl | ⟨hz, _⟩
      · refine Or.inr ⟨nI_pos' (by omega), ?_⟩
        rw [pk_us]
        exact nI_le (by omega) (by omega)
      · exact Or.inl hz
    · rw [pk_un e]
      have ea : a' j = a j := by
        rcases ha with rfl | ⟨_, rfl⟩
        · exact pk_un e
        · rw [pk_un e, pk_un e]
      rw [ea]
      exact ok j (by omega) hjk
/-- the filling loop and all that stands behind it -/
theorem ds_52 {post : Int32 → St0 → Prop} {mc ms kc ks r k : Nat} {x0 x1 x2 : Int32} (hr : r ≤ 8) (hk : k ≤ r) (H : post 1 ()) : ∃ n, wL_lawOf_52 post mc ms x0 x1 x2 (nI r) (nI k) kc ks r r k k n 0 (fun _ => 0) (fun _ => 0) (fun _ => 0) (fun _ => 0) := by
  refine pk_loop (fun n i (s : (Nat → Int32) × (Nat → Int32)) => wL_lawOf_52 post mc ms x0 x1 x2 (nI r) (nI k) kc ks r r k k n (nI i) s.1 s.1 s.2 s.2) (fun i s => ∀ j, j < i → j < k → s.2 j = 0 ∨ (0 ≤ s.2 j ∧ s.2 j ≤ s.1 j)) r 0 (fun _ => 0, fun _ => 0) (by omega) (fun j hj _ => absurd hj (by omega)) ?_ ?_
  · rintro n ⟨a, w⟩ h
    refine pk_le r r (fun _ => ?_) (fun z => absurd z (by omega))
    exact ds_x0 hk hr (fun j hj => h j (by omega) hj) (ds_x1 hk hr (br_t rfl (ds_194 hr (by omega) H)))
  · rintro n i ⟨a, w⟩ hi h hw
    have hJ : ∀ a' w' : Nat → Int32, (∀ j, j < i + 1 → j < k → w' j = 0 ∨ (0 ≤ w' j ∧ w' j ≤ a' j)) → wL_lawOf_52 post mc ms x0 x1 x2 (nI r) (nI k) kc ks r r k k n (nI (i + 1)) a' a' w' w' := fun a' w' h' => hw (a', w') h'
    refine pk_le r i (fun z => absurd z (by omega)) (fun _ => pk_le k i (fun _ => ?_) (fun _ => ?_))
    · exact ds_88 (m := 0) hi hr (by omega) (by omega) h hJ
    · obtain ⟨p, hp, ep⟩ := pk_andE ((x0.toUInt32 >>> ((4 * nI i).toUInt32 &&& Int32.toUInt32 31)).toInt32) (m := 15) 4 (by decide)
      obtain ⟨c, hc, ec⟩ := pk_andE ((x2.toUInt32 >>> ((8 : Int32).toUInt32 &&& Int32.toUInt32 31)).toInt32) (m := 1023) 10 (by decide)
      rw [ep, ec, pk_mul]
      have hm : p * c ≤ 15 * 1023 := Nat.mul_le_mul (by omega) (by omega)
      exact ds_88 hi hr (by omega) (by omega) h hJ
theorem ds_lawOf {post : Int32 → St0 → Prop} {p0 p1 p2 p3 : Int32} (H : post 1 ()) : wpL_lawOf post 4 32 () p0 p1 p2 p3 := by
  unfold wpL_lawOf
  obtain ⟨p, hp, ep⟩ := pk_andE p3 (m := 7) 3 (by decide)
  obtain ⟨q, hq, eq⟩ := pk_andE ((p3.toUInt32 >>> ((3 : Int32).toUInt32 &&& Int32.toUInt32 31)).toInt32) (m := 1) 1 (by decide)
  obtain ⟨t, ht, et⟩ := pk_andE ((p3.toUInt32 >>> ((4 : Int32).toUInt32 &&& Int32.toUInt32 31)).toInt32) (m := 15) 4 (by decide)
  rw [ep, eq, et, nI_add]
  obtain ⟨r, er⟩ : ∃ r, r = p + q := ⟨_, rfl⟩
  have hr : r ≤ 8 := by omega
  rw [← er]
  refine nm_e ?_
  rw [nI_1]
  refine ⟨nI_ne0 (by omega) (by omega), nm_r (pk_rem (by omega) (by omega) (by omega)) ?_⟩
  obtain ⟨k, ek⟩ : ∃ k, k = t % (r + 1) := ⟨_, rfl⟩
  have hk : k ≤ r := by
    have := Nat.mod_lt t (show 0 < r + 1 by omega)
    omega
  rw [← ek]
  refine ⟨nI_pos (by omega), nm_r (nI_clamp (by omega)) ⟨by omega, by omega, by omega, nI_pos (by omega), nm_r (nI_clamp (by omega)) ⟨by omega, by omega, by omega, nI_pos (by omega), nm_r (nI_clamp (by omega)) ⟨by omega, by omega, by omega, nI_pos (by omega), nm_r (nI_clamp (by omega)) ⟨by omega, by omega, by omega, ?_⟩⟩⟩⟩⟩
  exact ds_52 hr hk H
theorem ds_cell {post : Int32 → Prop} {L : Nat} {xs : Nat → Int32} {i : Nat} (hL : L ≤ 4) (hi : i < 4) (H : ∀ r, post r) : wpL_cellAt post L xs () (nI i) :=
  pk_le L i (fun _ => H _) (fun z => ⟨pk_in i L z, H _⟩)
/-! ===== WHAT IS OWED for DeepStepsLaw: one statement: the law answers true on every script of L ints xs ===== -/
theorem i_vc (xs : Nat → Int32) (L : Nat) (hL : L ≤ 4) : wpL_law (fun r => r = 1) L xs := by
  unfold wpL_law
  exact ds_cell (i := 0) hL (by omega) (fun _ => ds_cell (i := 1) hL (by omega) (fun _ => ds_cell (i := 2) hL (by omega) (fun _ => ds_cell (i := 3) hL (by omega) (fun _ => ⟨4, 32, by omega, by omega, ds_lawOf rfl⟩))))
end
