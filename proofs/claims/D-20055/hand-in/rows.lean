section
/-- a shift by ten places is a product with 1024 (at every int, overflow or not) -/
theorem sp_shl (x : Int32) : x <<< ((10 : Int32) &&& 31) = x * 1024 := by
  apply Int32.toBitVec_inj.mp
  apply BitVec.eq_of_toNat_eq
  rw [pk_shl x ((10 : Int32) &&& 31) 10 (by decide), Int32.toBitVec_mul, BitVec.toNat_mul]
  rfl
/-- the class's sum and the plain one agree -/
theorem sp_join (x z : Int32) : (x <<< ((10 : Int32) &&& 31)) + z + (-56613888) = x * 1024 + z - 56613888 := by
  rw [sp_shl, Int32.sub_eq_add_neg]
/-- an int that a char may hold as it is -/
def sp_ch (x : Int32) : Prop := narrow .char (.int x) = .int x ∧ fits .char (.int x) = true
theorem sp_chI (x : Int32) : sp_ch ((x.toUInt32 % 65536).toInt32) := ⟨pk_nc x, pk_fc x⟩
/-- cellAt ends at each of the three places, whatever the script's length -/
theorem sp_cell {post : Int32 → Prop} {L : Nat} {xs : Nat → Int32} {u : St0} (i : Nat) (hi : i < 3) (hL : L ≤ 3) (h : ∀ r, post r) : wpL_cellAt post L xs u (nI i) := by
  unfold wpL_cellAt
  refine ⟨fun _ => h _, fun hn => ⟨vp_in_nI ?_ (by omega), h _⟩⟩
  by_cases g : i < L
  · exact g
  · exact absurd (nI_le (a := L) (b := i) (by omega) (by omega)) hn
/-- the class's joinPair, over any post -/
theorem sp_x1 {post : Int32 → St0 → Prop} {mc ms : Nat} {u : St0} {p0 p1 : Int32} (hc : 1 ≤ mc) (hs : 2 ≤ ms) (h0 : sp_ch p0) (h1 : sp_ch p1) (h : post (p0 * 1024 + p1 - 56613888) ()) : wpX1_joinPair post mc ms u p0 p1 := by
  unfold wpX1_joinPair
  refine ⟨hc, hs, ?_⟩
  unfold wpX0_init
  refine ⟨h0.1, h0.2, h1.1, h1.2, ?_⟩
  unfold wpJ11_toCodePoint_2af7c_48e5c
  dsimp only
  rw [sp_join]
  exact h
/-- the law's comparison -/
theorem sp_41 {post : Int32 → St0 → Prop} {mc ms : Nat} {x3 z0 : Int32} {kc ks : Nat} (hc : kc + 1 ≤ mc) (hs : ks + 2 ≤ ms) (h0 : sp_ch x3) (h1 : sp_ch z0) (h : post 1 ()) : wL_lawOf_41 post mc ms x3 z0 kc ks := by
  unfold wL_lawOf_41
  refine ⟨1, 2, hc, hs, sp_x1 (Nat.le_refl 1) (Nat.le_refl 2) h0 h1 ?_⟩
  unfold wpX2_joinPair
  exact fun y hy => br_t (by rw [hy]) h
theorem sp_20 {post : Int32 → St0 → Prop} {mc ms : Nat} {x1 x2 z0 : Int32} {kc ks : Nat} (hc : kc + 1 ≤ mc) (hs : ks + 2 ≤ ms) (h0 : sp_ch z0) (h : post 1 ()) : wL_lawOf_20 post mc ms x1 x2 z0 kc ks := by
  unfold wL_lawOf_20
  exact br_c (fun _ => sp_41 hc hs h0 (sp_chI _) h) (fun _ => sp_41 hc hs h0 (sp_chI _) h)
theorem sp_lawOf {post : Int32 → St0 → Prop} {mc ms : Nat} {u : St0} {p0 p1 p2 : Int32} (hc : 0 + 1 ≤ mc) (hs : 0 + 2 ≤ ms) (h : post 1 ()) : wpL_lawOf post mc ms u p0 p1 p2 := by
  unfold wpL_lawOf
  exact br_c (fun _ => sp_20 hc hs (sp_chI _) h) (fun _ => sp_20 hc hs (sp_chI _) h)
/-- what is owed -/
theorem i_vc (xs : Nat → Int32) (L : Nat) (hL : L ≤ 3) : wpL_law (fun r => r = 1) L xs := by
  unfold wpL_law
  exact sp_cell 0 (by decide) hL (fun _ => sp_cell 1 (by decide) hL (fun _ => sp_cell 2 (by decide) hL (fun _ => ⟨1, 2, by decide, by decide, sp_lawOf (by decide) (by decide) rfl⟩)))
end
