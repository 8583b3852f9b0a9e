section
/-- what the law's bools stores at place j: bit j of x, as 0 or 1 -/
def fs_f (x : Int32) (j : Nat) : Int32 := if ((x.toUInt32 >>> ((nI j).toUInt32 &&& Int32.toUInt32 31)).toInt32 &&& 1) = 0 then 0 else 1
/-- how many of the first n places are set -/
def fs_c (x : Int32) : Nat → Nat
  | 0 => 0
  | n + 1 => fs_c x n + (if fs_f x n = 0 then 0 else 1)
theorem fs_or (x : Int32) (j : Nat) : fs_f x j = 0 ∨ fs_f x j = 1 := by
  by_cases h : ((x.toUInt32 >>> ((nI j).toUInt32 &&& Int32.toUInt32 31)).toInt32 &&& 1) = 0
  · exact Or.inl (if_pos h)
  · exact Or.inr (if_neg h)
theorem fs_c0 {x : Int32} {n : Nat} (h : fs_f x n = 0) : fs_c x (n + 1) = fs_c x n := by
  show fs_c x n + (if fs_f x n = 0 then 0 else 1) = fs_c x n
  rw [if_pos h, Nat.add_zero]
theorem fs_c1 {x : Int32} {n : Nat} (h : ¬ fs_f x n = 0) : fs_c x (n + 1) = fs_c x n + 1 := by
  show fs_c x n + (if fs_f x n = 0 then 0 else 1) = fs_c x n + 1
  rw [if_neg h]
theorem fs_le (x : Int32) (n : Nat) : fs_c x n ≤ n := by
  induction n with
  | zero => exact Nat.le_refl 0
  | succ n ih =>
    by_cases h : fs_f x n = 0
    · rw [fs_c0 h]
      omega
    · rw [fs_c1 h]
      omega
theorem fs_m2 (c : Nat) : c % 2 = 0 ∨ c % 2 = 1 := by omega
theorem fs_xor (x : Int32) (i : Nat) : nI (fs_c x i % 2) ^^^ fs_f x i = nI (fs_c x (i + 1) % 2) := by
  rcases fs_or x i with h | h
  · rw [fs_c0 h, h]
    rcases fs_m2 (fs_c x i) with e | e
    · rw [e]
      decide
    · rw [e]
      decide
  · have h0 : ¬ fs_f x i = 0 := by
      rw [h]
      decide
    rw [fs_c1 h0, h]
    rcases fs_m2 (fs_c x i) with e | e
    · rw [e, show (fs_c x i + 1) % 2 = 1 by omega]
      decide
    · rw [e, show (fs_c x i + 1) % 2 = 0 by omega]
      decide
theorem fs_nar (c : Nat) : narrow .boolean (.int (nI (c % 2))) = .int (nI (c % 2)) := by
  rcases fs_m2 c with e | e
  · rw [e]
    rfl
  · rw [e]
    rfl
theorem fs_fill {f s : Nat → Int32} {i k : Nat} {x : Int32} (hk : k = i) (h : ∀ j, j < i → s j = f j) (hx : x = f i) : ∀ j, j < i + 1 → upd s k x j = f j := by
  intro j hj
  rw [hk]
  by_cases e : j = i
  · rw [e, pk_us, hx]
  · rw [pk_un e]
    exact h j (by omega)
theorem fs_b9 {post : St1 → Prop} {mc ms : Nat} {x : Int32} {kc ks m : Nat} (hm : m ≤ 7) (H : ∀ a, (∀ j, j < m → a j = fs_f x j) → post (a, m)) : ∃ n, wL_bools_9 post mc ms x kc ks m n 0 (fun _ => 0) :=
  pk_loop (fun n i s => wL_bools_9 post mc ms x kc ks m n (nI i) s) (fun i s => ∀ j, j < i → s j = fs_f x j) m 0 (fun _ => 0) (by omega) (fun j hj => absurd hj (by omega))
    (fun n s h => pk_le m m (fun _ => H s h) (fun z => absurd z (by omega)))
    (fun n i s hi h hw => pk_le m i (fun z => absurd z (by omega)) (fun _ => br_c
      (fun g => ⟨pk_in i m hi, nm_e (nm_r (nI_1 i) (hw _ (fs_fill (nI_clamp (by omega)) h (if_pos g).symm)))⟩)
      (fun g => ⟨pk_in i m hi, nm_e (nm_r (nI_1 i) (hw _ (fs_fill (nI_clamp (by omega)) h (if_neg g).symm)))⟩)))
theorem fs_bools {post : St1 → Prop} {mc ms m : Nat} {p0 p1 : Int32} (h1 : 1 ≤ mc) (h2 : 7 ≤ ms) (hm : m ≤ 7) (e : p1 &&& 7 = nI m) (H : ∀ a, (∀ j, j < m → a j = fs_f p0 j) → post (a, m)) : wpL_bools post mc ms () p0 p1 := by
  unfold wpL_bools
  rw [e]
  exact ⟨nI_pos (by omega), nm_r (nI_clamp (by omega)) ⟨by omega, h1, by omega, fs_b9 hm H⟩⟩
theorem fs_x1 {post : Int32 → Prop} {x : Int32} {a : Nat → Int32} {m : Nat} (hm : m ≤ 7) (ha : ∀ j, j < m → a j = fs_f x j) (H : post (nI (fs_c x m % 2))) : wpX1_oddCount post (a, m) :=
  nm_r (e' := nI m) rfl (pk_loop (σ := Unit) (fun n i _ => wX1_oddCount_10 post (nI m) a m n (nI (fs_c x i % 2)) (nI i)) (fun _ _ => True) m 0 () (by omega) trivial
    (fun n _ _ => pk_le m m (fun _ => ⟨fs_nar _, H⟩) (fun z => absurd z (by omega)))
    (fun n i _ hi _ hw => pk_le m i (fun z => absurd z (by omega)) (fun _ => ⟨pk_in i m hi, nm_r (e' := fs_f x i) (by rw [nI_clamp (by omega)]; exact ha i hi) (by
      unfold wpJ14_logicalXor_ba79e_48e5c
      rw [fs_xor]
      exact ⟨fs_nar _, nm_r (nI_1 i) (hw () trivial)⟩)⟩)))
theorem fs_x2 {post : Int32 → Prop} {x : Int32} {a : Nat → Int32} {m : Nat} (hm : m ≤ 7) (ha : ∀ j, j < m → a j = fs_f x j) (H : post (nI (fs_c x m % 2))) : wpX2_oddCount post (a, m) :=
  pk_loop (σ := Unit) (fun n i _ => wX2_oddCount_4 post a m n (nI (fs_c x i)) (nI i)) (fun _ _ => True) m 0 () (by omega) trivial
    (fun n _ _ => pk_le m m (fun _ => ⟨by decide, pk_eq (fs_c x m % 2) 1
        (fun z => by
          rw [z] at H
          exact H)
        (fun z => by
          rw [show fs_c x m % 2 = 0 by omega] at H
          exact H)
        (pk_rem (d := 2) (Nat.lt_of_le_of_lt (fs_le x m) (by omega)) (by decide) (by decide))⟩) (fun z => absurd z (by omega)))
    (fun n i _ hi _ hw => pk_le m i (fun z => absurd z (by omega)) (fun _ => ⟨pk_in i m hi, by
      have t : wX2_oddCount_4 post a m n (nI (fs_c x (i + 1))) (nI (i + 1)) := hw () trivial
      rw [nI_clamp (show i < 2 ^ 31 by omega), ha i hi]
      refine br_c (fun g => nm_r (nI_1 i) ?_) (fun g => nm_r (nI_1 _) (nm_r (nI_1 i) ?_))
      · rw [fs_c0 g] at t
        exact t
      · rw [fs_c1 g] at t
        exact t⟩))
theorem fs_lawOf {post : Int32 → St0 → Prop} (p0 p1 : Int32) (H : post 1 ()) : wpL_lawOf post 3 48 () p0 p1 := by
  obtain ⟨m, hm, e⟩ := pk_andE p1 (m := 7) 3 (by decide)
  have hm7 : m ≤ 7 := by omega
  exact ⟨1, 7, by omega, by omega, fs_bools (by omega) (by omega) hm7 e (fun a ha => fs_x1 hm7 ha ⟨1, 7, by omega, by omega, fs_bools (by omega) (by omega) hm7 e (fun b hb => fs_x2 hm7 hb (br_t rfl H))⟩)⟩
theorem fs_cell {post : Int32 → Prop} {L : Nat} {xs : Nat → Int32} (k : Nat) (hL : L ≤ 2) (hk : k < 2) (H : ∀ r, post r) : wpL_cellAt post L xs () (nI k) :=
  pk_le L k (fun _ => H _) (fun z => ⟨pk_in k L z, H _⟩)
end
section
theorem i_vc (xs : Nat → Int32) (L : Nat) (hL : L ≤ 2) : wpL_law (fun r => r = 1) L xs :=
  fs_cell 0 hL (by decide) (fun r1 => fs_cell 1 hL (by decide) (fun r2 => ⟨3, 48, by omega, by omega, fs_lawOf r1 r2 rfl⟩))
end
