section
/-! ===== MeterDesk: a mask by 2^31 - 1 is never negative ===== -/
theorem md_mask (x : Int32) : 0 ≤ x &&& 2147483647 := by
  obtain ⟨j, hj, e⟩ := pk_andE x (m := 2147483647) 31 (by decide)
  rw [e]
  have h := nI_le (a := 0) (b := j) (Nat.zero_le j) hj
  rwa [nI_0] at h
/-! ===== the methods ===== -/
theorem md_add {post : St1 → Prop} {t n : Int32} (hn : 0 ≤ n) (hp : post (t + n)) : wpX2_add post t n :=
  br_t hn (nm_e hp)
theorem md_one {post : Int32 → St1 → Prop} {t n : Int32} (hn : 0 ≤ n) (hp : post (t + n) (t + n)) : wpX7_addOne post t n := by
  unfold wpX7_addOne
  exact md_add hn hp
theorem md_two {post : Int32 → St1 → Prop} {t n : Int32} (hn : 0 ≤ n) (hp : post (t + n) (t + n)) : wpX8_addOne post t n := by
  unfold wpX8_addOne wpX2_read
  exact md_add hn hp
/-- the law's cell: inside the script or not, some int -/
theorem md_cell {post : Int32 → Prop} {L : Nat} {xs : Nat → Int32} {u : St0} (k : Nat) (hL : L < 2 ^ 31) (hk : k < 2 ^ 31) (hp : ∀ r, post r) : wpL_cellAt post L xs u (nI k) := by
  unfold wpL_cellAt
  refine ⟨fun _ => hp 0, fun h => ⟨vp_in_nI ?_ hL, hp _⟩⟩
  apply Nat.lt_of_not_le
  intro z
  exact h (nI_le z hk)
theorem md_law {post : Int32 → St0 → Prop} {a b : Int32} {u : St0} (hp : post 1 ()) : wpL_lawOf post 2 2 u a b := by
  unfold wpL_lawOf
  intro n en
  have hn : 0 ≤ n := by
    rw [en]
    exact md_mask b
  refine ⟨by decide, by decide, ?_⟩
  unfold wpX2_init
  refine ⟨by decide, by decide, ?_⟩
  refine md_one hn (md_two hn ?_)
  exact br_t rfl (br_t rfl (br_t rfl hp))
end
section
theorem i_vc (xs : Nat → Int32) (L : Nat) (hL : L ≤ 2) : wpL_law (fun r => r = 1) L xs := by
  unfold wpL_law
  exact md_cell 0 (by omega) (by decide) (fun a => md_cell 1 (by omega) (by decide) (fun b => ⟨2, 2, by decide, by decide, md_law rfl⟩))
end
