section
/-! The count of the live rows, in plain Lean -/
/-- the number of live rows below n -/
def rh_cnt (us : Nat → Int32) : Nat → Nat
  | 0 => 0
  | n + 1 => rh_cnt us n + (if us n = 1 then 1 else 0)
theorem rh_us {f : Nat → Int32} {k : Nat} {x : Int32} : upd f k x k = x := if_pos rfl
theorem rh_un {f : Nat → Int32} {k j : Nat} {x : Int32} (h : j ≠ k) : upd f k x j = f j := if_neg h
/-- an empty table has no live row -/
theorem rh_z : ∀ n, rh_cnt (fun _ => 0) n = 0 := by
  intro n
  induction n with
  | zero => rfl
  | succ n ih =>
    show rh_cnt (fun _ => 0) n + (if (0 : Int32) = 1 then 1 else 0) = 0
    rw [ih, if_neg (by decide)]
/-- a store at i doesn't change the count below i -/
theorem rh_far (us : Nat → Int32) (i : Nat) (x : Int32) : ∀ n, n ≤ i → rh_cnt (upd us i x) n = rh_cnt us n := by
  intro n
  induction n with
  | zero => intro _; rfl
  | succ n ih =>
    intro h
    show rh_cnt (upd us i x) n + (if upd us i x n = 1 then 1 else 0) = rh_cnt us n + (if us n = 1 then 1 else 0)
    rw [ih (by omega), rh_un (by omega)]
/-- a free row that becomes live: one more -/
theorem rh_ins (us : Nat → Int32) (i : Nat) (h0 : us i = 0) : ∀ n, i < n → rh_cnt (upd us i 1) n = rh_cnt us n + 1 := by
  intro n
  induction n with
  | zero => intro h; omega
  | succ n ih =>
    intro h
    show rh_cnt (upd us i 1) n + (if upd us i 1 n = 1 then 1 else 0) = rh_cnt us n + (if us n = 1 then 1 else 0) + 1
    by_cases e : n = i
    · subst e
      rw [rh_far us n 1 n (Nat.le_refl n), rh_us, h0, if_pos rfl, if_neg (by decide)]
    · rw [ih (by omega), rh_un e]; omega
/-- a live row that becomes free: one less -/
theorem rh_del (us : Nat → Int32) (i : Nat) (h1 : us i = 1) : ∀ n, i < n → rh_cnt us n = rh_cnt (upd us i 0) n + 1 := by
  intro n
  induction n with
  | zero => intro h; omega
  | succ n ih =>
    intro h
    show rh_cnt us n + (if us n = 1 then 1 else 0) = rh_cnt (upd us i 0) n + (if upd us i 0 n = 1 then 1 else 0) + 1
    by_cases e : n = i
    · subst e
      rw [rh_far us n 0 n (Nat.le_refl n), rh_us, h1, if_pos rfl, if_neg (by decide)]
    · rw [ih (by omega), rh_un e]; omega
/-- cells that are 0 or 1 stay so -/
theorem rh_bit {us : Nat → Int32} {i : Nat} {x : Int32} (hb : ∀ j, us j = 0 ∨ us j = 1) (hx : x = 0 ∨ x = 1) : ∀ j, upd us i x j = 0 ∨ upd us i x j = 1 := by
  intro j
  by_cases e : j = i
  · subst e; rw [rh_us]; exact hx
  · rw [rh_un e]; exact hb j
theorem rh_n0 : vp_nar .boolean 0 = 0 := by first | rfl | decide
theorem rh_n1 : vp_nar .boolean 1 = 1 := by first | rfl | decide
theorem rh_16 : nI 16 = 16 := by decide +kernel
/-- a row's number: negative, too large, or within -/
theorem rh_ix (x : Int32) {c : Nat} (hc : c ≤ 16) : x < 0 ∨ (¬ x < 0 ∧ nI c ≤ x) ∨ ∃ j : Nat, j < c ∧ x = nI j := by
  by_cases h : x < 0
  · exact Or.inl h
  · by_cases h2 : nI c ≤ x
    · exact Or.inr (Or.inl ⟨h, h2⟩)
    · obtain ⟨j, hj, rfl⟩ := nI_of h
      rw [nI_leI (by omega) hj] at h2
      exact Or.inr (Or.inr ⟨j, by omega, rfl⟩)
end
section
/-! Each method's walk at a state of the relation's shape, over a general post -/
/-- insert, both sides in lockstep: no free row from i on, or the same first free row j -/
theorem rh_scan (c : Nat) (hc : c ≤ 16) (us va vb : Nat → Int32) (x1 lc : Int32) : ∀ d i : Nat, i + d = c →
    ((∀ post : Int32 → SX → Prop, post (-1) (nI c, lc, va, us) → wX_insert_2 post x1 (nI c) lc va us (d + 1) (nI i)) ∧
     (∀ post : Int32 → SY → Prop, post (-1) (nI c, us, vb) → wY_insert_2 post x1 (nI c) us vb (d + 1) (nI i))) ∨
    ∃ j : Nat, j < c ∧ us j = 0 ∧
     (∀ post : Int32 → SX → Prop, post (nI j) (nI c, lc + 1, upd va j x1, upd us j 1) → wX_insert_2 post x1 (nI c) lc va us (d + 1) (nI i)) ∧
     (∀ post : Int32 → SY → Prop, post (nI j) (nI c, upd us j 1, upd vb j x1) → wY_insert_2 post x1 (nI c) us vb (d + 1) (nI i)) := by
  intro d
  induction d with
  | zero =>
    intro i hi
    have h : nI c ≤ nI i := nI_le (by omega) (by omega)
    exact Or.inl ⟨fun _ hp => br_t h hp, fun _ hp => br_t h hp⟩
  | succ d ih =>
    intro i hi
    have h : ¬ nI c ≤ nI i := nI_ge (by omega) (by omega)
    have hin : vp_in (nI i) 16 := vp_in_nI (by omega) (by omega)
    have e : (nI i).toNatClampNeg = i := nI_clamp (by omega)
    by_cases z : us i = 0
    · have z' : us (nI i).toNatClampNeg = 0 := by rw [e]; exact z
      refine Or.inr ⟨i, by omega, z, fun post hp => ?_, fun post hp => ?_⟩
      · refine br_f h ⟨hin, br_t z' ⟨hin, fun a ea => ⟨hin, fun b eb => fun l el => ?_⟩⟩⟩
        rw [ea, eb, el, e, rh_n1]; exact hp
      · refine br_f h ⟨hin, br_t z' ⟨hin, fun a ea => ⟨hin, fun b eb => ?_⟩⟩⟩
        rw [ea, eb, e]; exact hp
    · have z' : ¬ us (nI i).toNatClampNeg = 0 := by rw [e]; exact z
      rcases ih (i + 1) (by omega) with ⟨hX, hY⟩ | ⟨j, hj, h0, hX, hY⟩
      · refine Or.inl ⟨fun post hp => br_f h ⟨hin, br_f z' fun y ey => ?_⟩, fun post hp => br_f h ⟨hin, br_f z' fun y ey => ?_⟩⟩
        · rw [ey, nI_1]; exact hX post hp
        · rw [ey, nI_1]; exact hY post hp
      · refine Or.inr ⟨j, hj, h0, fun post hp => br_f h ⟨hin, br_f z' fun y ey => ?_⟩, fun post hp => br_f h ⟨hin, br_f z' fun y ey => ?_⟩⟩
        · rw [ey, nI_1]; exact hX post hp
        · rw [ey, nI_1]; exact hY post hp
/-- the reference's count -/
theorem rh_cntY (c : Nat) (hc : c ≤ 16) (us vb : Nat → Int32) (post : Int32 → Prop) (hp : post (nI (rh_cnt us c))) : ∀ d i : Nat, i + d = c →
    wY_count_4 post (nI c) us vb (d + 1) (nI (rh_cnt us i)) (nI i) := by
  intro d
  induction d with
  | zero =>
    intro i hi
    have h : nI c ≤ nI i := nI_le (by omega) (by omega)
    have e : i = c := by omega
    subst e
    exact br_t h hp
  | succ d ih =>
    intro i hi
    have h : ¬ nI c ≤ nI i := nI_ge (by omega) (by omega)
    have hin : vp_in (nI i) 16 := vp_in_nI (by omega) (by omega)
    have e : (nI i).toNatClampNeg = i := nI_clamp (by omega)
    have K := ih (i + 1) (by omega)
    by_cases z : us i = 1
    · have z' : us (nI i).toNatClampNeg = 1 := by rw [e]; exact z
      have q : rh_cnt us (i + 1) = rh_cnt us i + 1 := by
        show rh_cnt us i + (if us i = 1 then 1 else 0) = _
        rw [if_pos z]
      rw [q] at K
      refine br_f h ⟨hin, br_t z' fun x ex => fun y ey => ?_⟩
      rw [ex, ey, nI_1, nI_1]; exact K
    · have z' : ¬ us (nI i).toNatClampNeg = 1 := by rw [e]; exact z
      have q : rh_cnt us (i + 1) = rh_cnt us i := by
        show rh_cnt us i + (if us i = 1 then 1 else 0) = _
        rw [if_neg z]; rfl
      rw [q] at K
      refine br_f h ⟨hin, br_f z' fun y ey => ?_⟩
      rw [ey, nI_1]; exact K
/-- the reference's live, outside and inside -/
theorem rh_lvO {post : Int32 → Prop} {c : Nat} {us vb : Nat → Int32} {x : Int32} (h : x < 0 ∨ (¬ x < 0 ∧ nI c ≤ x)) (hp : post 0) : wpY_live post (nI c, us, vb) x := by
  unfold wpY_live
  rcases h with h | ⟨h, h2⟩
  · exact br_t h hp
  · exact br_f h (br_t h2 hp)
theorem rh_lvI {post : Int32 → Prop} {c j : Nat} {us vb : Nat → Int32} (hc : c ≤ 16) (hj : j < c) (hb : us j = 0 ∨ us j = 1) (hp : post (us j)) : wpY_live post (nI c, us, vb) (nI j) := by
  have hn : ¬ nI j < 0 := nI_pos (by omega)
  have hl : ¬ nI c ≤ nI j := nI_ge hj (by omega)
  have hi : vp_in (nI j) 16 := vp_in_nI (by omega) (by omega)
  have e : (nI j).toNatClampNeg = j := nI_clamp (by omega)
  unfold wpY_live
  rcases hb with h | h
  · rw [h] at hp
    have z : ¬ us (nI j).toNatClampNeg = 1 := by rw [e, h]; decide
    exact br_f hn (br_f hl ⟨hi, br_f z hp⟩)
  · rw [h] at hp
    have z : us (nI j).toNatClampNeg = 1 := by rw [e, h]
    exact br_f hn (br_f hl ⟨hi, br_t z hp⟩)
theorem rh_nlt {x : Int32} {c : Nat} (h : nI c ≤ x) : ¬ x < nI c := Int32.not_lt.mpr h
/-- the component's live -/
theorem rh_lxO {post : Int32 → Prop} {c : Nat} {lc : Int32} {us va : Nat → Int32} {x : Int32} (h : x < 0 ∨ (¬ x < 0 ∧ nI c ≤ x)) (hp : post 0) : wpX_live post (nI c, lc, va, us) x := by
  unfold wpX_live
  rcases h with h | ⟨h, h2⟩
  · exact br_t h hp
  · exact br_f h (br_f (rh_nlt h2) hp)
theorem rh_lxI {post : Int32 → Prop} {c j : Nat} {lc : Int32} {us va : Nat → Int32} (hc : c ≤ 16) (hj : j < c) (hb : us j = 0 ∨ us j = 1) (hp : post (us j)) : wpX_live post (nI c, lc, va, us) (nI j) := by
  have hn : ¬ nI j < 0 := nI_pos (by omega)
  have hl : nI j < nI c := nI_lt hj (by omega)
  have hi : vp_in (nI j) 16 := vp_in_nI (by omega) (by omega)
  have e : (nI j).toNatClampNeg = j := nI_clamp (by omega)
  unfold wpX_live
  dsimp only
  rw [e]
  refine br_f hn (br_t hl ⟨hi, ?_, hp⟩)
  rcases hb with h | h <;> rw [h] <;> rfl
/-- the component's get -/
theorem rh_gxO {post : Int32 → Prop} {c : Nat} {lc : Int32} {us va : Nat → Int32} {x : Int32} (h : x < 0 ∨ (¬ x < 0 ∧ nI c ≤ x)) (hp : post 0) : wpX_get post (nI c, lc, va, us) x := by
  unfold wpX_get
  rcases h with h | ⟨h, h2⟩
  · exact br_t h hp
  · exact br_f h (br_f (rh_nlt h2) hp)
theorem rh_gxI {post : Int32 → Prop} {c j : Nat} {lc : Int32} {us va : Nat → Int32} (hc : c ≤ 16) (hj : j < c) (h0 : us j = 0 → post 0) (h1 : ¬ us j = 0 → post (va j)) : wpX_get post (nI c, lc, va, us) (nI j) := by
  have hn : ¬ nI j < 0 := nI_pos (by omega)
  have hl : nI j < nI c := nI_lt hj (by omega)
  have hi : vp_in (nI j) 16 := vp_in_nI (by omega) (by omega)
  have e : (nI j).toNatClampNeg = j := nI_clamp (by omega)
  unfold wpX_get
  dsimp only
  rw [e]
  exact br_f hn (br_t hl ⟨hi, br_c h0 fun z => ⟨hi, h1 z⟩⟩)
/-- the component's delete -/
theorem rh_dxO {post : Int32 → SX → Prop} {c : Nat} {lc : Int32} {us va : Nat → Int32} {x : Int32} (h : x < 0 ∨ (¬ x < 0 ∧ nI c ≤ x)) (hp : post 0 (nI c, lc, va, us)) : wpX_delete post (nI c, lc, va, us) x := by
  unfold wpX_delete
  rcases h with h | ⟨h, h2⟩
  · exact br_t h hp
  · exact br_f h (br_f (rh_nlt h2) hp)
theorem rh_dxI {post : Int32 → SX → Prop} {c j : Nat} {lc : Int32} {us va : Nat → Int32} (hc : c ≤ 16) (hj : j < c) (h0 : us j = 0 → post 0 (nI c, lc, va, us)) (h1 : ¬ us j = 0 → post 1 (nI c, lc - 1, upd va j 0, upd us j 0)) : wpX_delete post (nI c, lc, va, us) (nI j) := by
  have hn : ¬ nI j < 0 := nI_pos (by omega)
  have hl : nI j < nI c := nI_lt hj (by omega)
  have hi : vp_in (nI j) 16 := vp_in_nI (by omega) (by omega)
  have e : (nI j).toNatClampNeg = j := nI_clamp (by omega)
  unfold wpX_delete
  dsimp only
  rw [e, rh_n0]
  refine br_f hn (br_t hl ⟨hi, br_c h0 fun z => ⟨hi, fun a ea => ⟨hi, fun b eb => fun l el => ?_⟩⟩⟩)
  rw [ea, eb, el]; exact h1 z
/-- the reference's get -/
theorem rh_gyO {post : Int32 → Prop} {c : Nat} {us vb : Nat → Int32} {x : Int32} (h : x < 0 ∨ (¬ x < 0 ∧ nI c ≤ x)) (hp : post 0) : wpY_get post (nI c, us, vb) x := by
  unfold wpY_get
  dsimp only
  exact rh_lvO h (br_t rfl hp)
theorem rh_gyI {post : Int32 → Prop} {c j : Nat} {us vb : Nat → Int32} (hc : c ≤ 16) (hj : j < c) (hb : us j = 0 ∨ us j = 1) (h0 : us j = 0 → post 0) (h1 : ¬ us j = 0 → post (vb j)) : wpY_get post (nI c, us, vb) (nI j) := by
  have hi : vp_in (nI j) 16 := vp_in_nI (by omega) (by omega)
  have e : (nI j).toNatClampNeg = j := nI_clamp (by omega)
  unfold wpY_get
  dsimp only
  rw [e]
  exact rh_lvI hc hj hb (br_c h0 fun z => ⟨hi, h1 z⟩)
/-- the reference's delete -/
theorem rh_dyO {post : Int32 → SY → Prop} {c : Nat} {us vb : Nat → Int32} {x : Int32} (h : x < 0 ∨ (¬ x < 0 ∧ nI c ≤ x)) (hp : post 0 (nI c, us, vb)) : wpY_delete post (nI c, us, vb) x := by
  unfold wpY_delete
  dsimp only
  exact rh_lvO h (br_t rfl hp)
theorem rh_dyI {post : Int32 → SY → Prop} {c j : Nat} {us vb : Nat → Int32} (hc : c ≤ 16) (hj : j < c) (hb : us j = 0 ∨ us j = 1) (h0 : us j = 0 → post 0 (nI c, us, vb)) (h1 : ¬ us j = 0 → post 1 (nI c, upd us j 0, vb)) : wpY_delete post (nI c, us, vb) (nI j) := by
  have hi : vp_in (nI j) 16 := vp_in_nI (by omega) (by omega)
  have e : (nI j).toNatClampNeg = j := nI_clamp (by omega)
  unfold wpY_delete
  dsimp only
  rw [e]
  refine rh_lvI hc hj hb (br_c h0 fun z => ⟨hi, fun a ea => ?_⟩)
  rw [ea]; exact h1 z
end
section
/-- both tables have c rows, one table of live rows, a count of them in the component, and one value in every live row -/
def i_Rel (k : Nat) (u : SX) (v : SY) : Prop := ∃ (c : Nat) (us va vb : Nat → Int32), c ≤ 16 ∧ u = (nI c, nI (rh_cnt us c), va, us) ∧ v = (nI c, us, vb) ∧ (∀ j, us j = 0 ∨ us j = 1) ∧ (∀ j, us j = 1 → va j = vb j)
theorem i_up {k : Nat} {u : SX} {v : SY} (h : i_Rel k u v) : i_Rel (k + 2) u v := h
theorem rh_mk {k c : Nat} {us va vb : Nat → Int32} {lc : Int32} (hc : c ≤ 16) (hl : lc = nI (rh_cnt us c)) (hb : ∀ j, us j = 0 ∨ us j = 1) (hv : ∀ j, us j = 1 → va j = vb j) : i_Rel k (nI c, lc, va, us) (nI c, us, vb) := by
  subst hl
  exact ⟨c, us, va, vb, hc, rfl, rfl, hb, hv⟩
theorem rh_0 {c : Nat} (hc : c ≤ 16) : i_Rel 1 (nI c, 0, fun _ => 0, fun _ => 0) (nI c, fun _ => 0, fun _ => 0) :=
  rh_mk hc (by rw [rh_z, nI_0]) (fun _ => Or.inl rfl) (fun _ _ => rfl)
theorem i_vc0 (k0 : Int32) : wpX_init (fun u => wpY_init (fun v => i_Rel 1 u v) k0) k0 := by
  unfold wpX_init wX_init_28 wpY_init wY_init_24
  by_cases h : 0 ≤ k0
  · by_cases h2 : k0 ≤ 16
    · obtain ⟨c, hc, e⟩ := nI_of2 (x := k0) (M := 16) (n := 16) (by decide) (Int32.not_lt.mpr h) h2
      refine br_t h (br_t h2 (br_t h (br_t h2 ?_)))
      rw [e]; exact rh_0 hc
    · refine br_t h (br_f h2 (br_t h (br_f h2 ?_)))
      rw [← rh_16]; exact rh_0 (Nat.le_refl 16)
  · refine br_f h (br_t (by decide) (br_f h ?_))
    have K := rh_0 (c := 0) (by omega)
    rw [nI_0] at K
    exact K
theorem i_vc_insert {k : Nat} {u : SX} {v : SY} (I : i_Rel k u v) (hk : k + 2 ≤ 1025) (v1 : Int32) : wpX_insert (fun r u' => wpY_insert (fun r' v' => r' = r ∧ i_Rel (k + 2) u' v') v v1) u v1 := by
  obtain ⟨c, us, va, vb, hc, rfl, rfl, hb, hv⟩ := I
  unfold wpX_insert wpY_insert
  dsimp only
  rcases rh_scan c hc us va vb v1 (nI (rh_cnt us c)) c 0 (by omega) with ⟨hX, hY⟩ | ⟨j, hj, h0, hX, hY⟩
  · rw [nI_0] at hX hY
    exact ⟨c + 1, hX _ ⟨c + 1, hY _ ⟨rfl, rh_mk hc rfl hb hv⟩⟩⟩
  · rw [nI_0] at hX hY
    refine ⟨c + 1, hX _ ⟨c + 1, hY _ ⟨rfl, rh_mk hc ?_ (rh_bit hb (Or.inr rfl)) fun i hi => ?_⟩⟩⟩
    · rw [rh_ins us j h0 c hj, nI_1]
    · by_cases e : i = j
      · subst e; rw [rh_us, rh_us]
      · rw [rh_un e] at hi
        rw [rh_un e, rh_un e]; exact hv i hi
theorem i_vc_delete {k : Nat} {u : SX} {v : SY} (I : i_Rel k u v) (hk : k + 2 ≤ 1025) (v1 : Int32) : wpX_delete (fun r u' => wpY_delete (fun r' v' => r' = r ∧ i_Rel (k + 2) u' v') v v1) u v1 := by
  obtain ⟨c, us, va, vb, hc, rfl, rfl, hb, hv⟩ := I
  have out : (v1 < 0 ∨ (¬ v1 < 0 ∧ nI c ≤ v1)) → wpX_delete (fun r u' => wpY_delete (fun r' v' => r' = r ∧ i_Rel (k + 2) u' v') (nI c, us, vb) v1) (nI c, nI (rh_cnt us c), va, us) v1 :=
    fun h => rh_dxO h (rh_dyO h ⟨rfl, rh_mk hc rfl hb hv⟩)
  rcases rh_ix v1 hc with h | h | ⟨j, hj, rfl⟩
  · exact out (Or.inl h)
  · exact out (Or.inr h)
  · refine rh_dxI hc hj (fun z => rh_dyI hc hj (hb j) (fun _ => ⟨rfl, rh_mk hc rfl hb hv⟩) (fun n => absurd z n)) (fun n => rh_dyI hc hj (hb j) (fun z => absurd z n) fun _ => ⟨rfl, rh_mk hc ?_ (rh_bit hb (Or.inl rfl)) fun i hi => ?_⟩)
    · have h1 : us j = 1 := (hb j).resolve_left n
      rw [rh_del us j h1 c hj, nI_pred]
    · by_cases e : i = j
      · subst e; rw [rh_us] at hi; exact absurd hi (by decide)
      · rw [rh_un e] at hi
        rw [rh_un e]; exact hv i hi
theorem i_vc_live {k : Nat} {u : SX} {v : SY} (I : i_Rel k u v) (hk : k + 2 ≤ 1025) (v1 : Int32) : wpX_live (fun r => wpY_live (fun r' => r' = r ∧ i_Rel (k + 2) u v) v v1) u v1 := by
  have I' : i_Rel (k + 2) u v := i_up I
  obtain ⟨c, us, va, vb, hc, rfl, rfl, hb, hv⟩ := I
  rcases rh_ix v1 hc with h | h | ⟨j, hj, rfl⟩
  · exact rh_lxO (Or.inl h) (rh_lvO (Or.inl h) ⟨rfl, I'⟩)
  · exact rh_lxO (Or.inr h) (rh_lvO (Or.inr h) ⟨rfl, I'⟩)
  · exact rh_lxI hc hj (hb j) (rh_lvI hc hj (hb j) ⟨rfl, I'⟩)
theorem i_vc_get {k : Nat} {u : SX} {v : SY} (I : i_Rel k u v) (hk : k + 2 ≤ 1025) (v1 : Int32) : wpX_get (fun r => wpY_get (fun r' => r' = r ∧ i_Rel (k + 2) u v) v v1) u v1 := by
  have I' : i_Rel (k + 2) u v := i_up I
  obtain ⟨c, us, va, vb, hc, rfl, rfl, hb, hv⟩ := I
  rcases rh_ix v1 hc with h | h | ⟨j, hj, rfl⟩
  · exact rh_gxO (Or.inl h) (rh_gyO (Or.inl h) ⟨rfl, I'⟩)
  · exact rh_gxO (Or.inr h) (rh_gyO (Or.inr h) ⟨rfl, I'⟩)
  · exact rh_gxI hc hj (fun z => rh_gyI hc hj (hb j) (fun _ => ⟨rfl, I'⟩) (fun n => absurd z n)) (fun n => rh_gyI hc hj (hb j) (fun z => absurd z n) fun _ => ⟨(hv j ((hb j).resolve_left n)).symm, I'⟩)
theorem i_vc_count {k : Nat} {u : SX} {v : SY} (I : i_Rel k u v) (hk : k + 2 ≤ 1025) : wpX_count (fun r => wpY_count (fun r' => r' = r ∧ i_Rel (k + 2) u v) v) u := by
  have I' : i_Rel (k + 2) u v := i_up I
  obtain ⟨c, us, va, vb, hc, rfl, rfl, hb, hv⟩ := I
  unfold wpX_count wpY_count
  dsimp only
  have K := rh_cntY c hc us vb (fun r' => r' = nI (rh_cnt us c) ∧ i_Rel (k + 2) (nI c, nI (rh_cnt us c), va, us) (nI c, us, vb)) ⟨rfl, I'⟩ c 0 (by omega)
  rw [nI_0] at K
  exact ⟨c + 1, K⟩
end
