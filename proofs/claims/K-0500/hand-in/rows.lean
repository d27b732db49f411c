section
theorem pk_us {f : Nat → Int32} {k : Nat} {x : Int32} : upd f k x k = x := if_pos rfl
theorem pk_un {f : Nat → Int32} {k j : Nat} {x : Int32} (h : j ≠ k) : upd f k x j = f j := if_neg h
theorem pk_sub {a b : Nat} (h : b ≤ a) : nI a - nI b = nI (a - b) := by
  obtain ⟨c, rfl⟩ : ∃ c, a = c + b := ⟨a - b, by omega⟩
  rw [← nI_add, Int32.add_sub_cancel, Nat.add_sub_cancel]
/-- every cell holds a short -/
def gi_S (a : Nat → Int32) : Prop := ∀ j, vp_nar .short (a j) = a j
theorem gi_nar (x : Int32) : vp_nar .short (vp_nar .short x) = vp_nar .short x := by
  rw [vp_nar_short, vp_nar_short]
  simp
theorem gi_S0 : gi_S (fun _ => 0) := by
  intro j
  show vp_nar .short 0 = 0
  rw [vp_nar_short]
  decide
theorem gi_Su {a : Nat → Int32} {k : Nat} {x : Int32} (h : gi_S a) (hx : vp_nar .short x = x) : gi_S (upd a k x) := by
  intro j
  by_cases e : j = k
  · subst e
    rw [pk_us]
    exact hx
  · rw [pk_un e]
    exact h j
theorem gi_self (a : Nat → Int32) (i : Nat) : upd a i (a i) = a := by
  funext j
  by_cases e : j = i
  · subst e
    rw [pk_us]
  · rw [pk_un e]
/-- a swap in the array where the lifted value lies is a shift in the array without it -/
theorem gi_swap (a : Nat → Int32) {j k : Nat} (t : Int32) (h : k ≠ j) : upd (upd (upd a j t) j (a k)) k t = upd (upd a j (a k)) k t := by
  funext q
  by_cases e : q = k
  · subst e
    rw [pk_us, pk_us]
  · rw [pk_un e, pk_un e]
    by_cases e2 : q = j
    · subst e2
      rw [pk_us, pk_us]
    · rw [pk_un e2, pk_un e2, pk_un e2]
/-- the three kinds of a gap -/
theorem gi_arg (x : Int32) : ¬ 1 ≤ x ∨ (1 ≤ x ∧ ¬ x < 16 ∧ 16 ≤ x) ∨ (1 ≤ x ∧ x < 16 ∧ ∃ g : Nat, 1 ≤ g ∧ g < 16 ∧ x = nI g) := by
  by_cases h1 : 1 ≤ x
  · have h0 : ¬ x < 0 := fun z => absurd (Int32.lt_of_le_of_lt h1 z) (by decide)
    obtain ⟨g, hg, rfl⟩ := nI_of h0
    have hg1 : 1 ≤ g := (nI_leI (a := 1) (by omega) hg).mp h1
    by_cases h2 : g < 16
    · exact Or.inr (Or.inr ⟨h1, nI_lt (b := 16) h2 (by omega), g, hg1, h2, rfl⟩)
    · exact Or.inr (Or.inl ⟨h1, nI_nlt (b := 16) (by omega) hg, nI_le (a := 16) (by omega) hg⟩)
  · exact Or.inl h1
end
section
/-- X's inner loop ends -/
theorem gi_Xe {post : Int32 → SX → Prop} {J : Int32 → Int32 → Int64 → (Nat → Int32) → Prop} {g i j n : Nat} {t c : Int32} {m : Int64} {A : Nat → Int32} (hg : g < 16) (hi : i < 16) (hj : j ≤ i) (ht : vp_nar .short t = t) (he : j < g ∨ A (j - g) ≤ t) (h : J c (nI (i + 1)) m (upd A j t)) : wX_pass_36 post J (nI g) (nI i) t (n + 1) c (nI j) m A := by
  have hin : vp_in (nI j) 16 := vp_in_nI (by omega) (by decide)
  have hcl : (nI j).toNatClampNeg = j := nI_clamp (by omega)
  by_cases hlt : j < g
  · exact br_t (nI_lt hlt (by omega)) ⟨hin, nm_r (e' := upd A j t) (by rw [hcl, ht]) (nm_r (nI_1 i) h)⟩
  · have hle : A (j - g) ≤ t := by
      cases he with
      | inl z => exact absurd z hlt
      | inr z => exact z
    have es : nI j - nI g = nI (j - g) := pk_sub (by omega)
    have hcs : (nI (j - g)).toNatClampNeg = j - g := nI_clamp (by omega)
    have hle' : A (nI j - nI g).toNatClampNeg ≤ t := by rw [es, hcs]; exact hle
    have hin' : vp_in (nI j - nI g) 16 := by rw [es]; exact vp_in_nI (by omega) (by decide)
    exact br_f (nI_nlt (by omega) (by omega)) ⟨hin', br_t hle' ⟨hin, nm_r (e' := upd A j t) (by rw [hcl, ht]) (nm_r (nI_1 i) h)⟩⟩
/-- X's inner loop goes on -/
theorem gi_Xg {post : Int32 → SX → Prop} {J : Int32 → Int32 → Int64 → (Nat → Int32) → Prop} {g i j n : Nat} {t c : Int32} {m : Int64} {A : Nat → Int32} (hg : g < 16) (hi : i < 16) (hj : j ≤ i) (hA : gi_S A) (hgj : g ≤ j) (hgt : ¬ A (j - g) ≤ t) (h : wX_pass_36 post J (nI g) (nI i) t n (c + 1) (nI (j - g)) (m + 1) (upd A j (A (j - g)))) : wX_pass_36 post J (nI g) (nI i) t (n + 1) c (nI j) m A := by
  have hin : vp_in (nI j) 16 := vp_in_nI (by omega) (by decide)
  have hcl : (nI j).toNatClampNeg = j := nI_clamp (by omega)
  have es : nI j - nI g = nI (j - g) := pk_sub (by omega)
  have hcs : (nI (j - g)).toNatClampNeg = j - g := nI_clamp (by omega)
  have hgt' : ¬ A (nI j - nI g).toNatClampNeg ≤ t := by rw [es, hcs]; exact hgt
  have hin' : vp_in (nI j - nI g) 16 := by rw [es]; exact vp_in_nI (by omega) (by decide)
  exact br_f (nI_nlt (by omega) (by omega)) ⟨hin', br_f hgt' ⟨hin', hin, nm_r (e' := upd A j (A (j - g))) (by rw [hcl, es, hcs, hA]) (nm_r es (nm_e (nm_e h)))⟩⟩
/-- Y's loop steps to the next i -/
theorem gi_Ye {post : Int32 → SY → Prop} {g i j n : Nat} {c : Int32} {B : Nat → Int32} (hg : g < 16) (hi : i < 16) (hj : j ≤ i) (he : j < g ∨ B (j - g) ≤ B j) (h : wY_pass_16 post (nI g) n (nI (i + 1)) (nI (i + 1)) c B) : wY_pass_16 post (nI g) (n + 1) (nI i) (nI j) c B := by
  have h16 : ¬ (16 : Int32) ≤ nI i := nI_ge (b := 16) hi (by decide)
  have hin : vp_in (nI j) 16 := vp_in_nI (by omega) (by decide)
  have hcl : (nI j).toNatClampNeg = j := nI_clamp (by omega)
  by_cases hlt : j < g
  · exact br_f h16 (br_t (nI_lt hlt (by omega)) (nm_r (nI_1 i) h))
  · have hle : B (j - g) ≤ B j := by
      cases he with
      | inl z => exact absurd z hlt
      | inr z => exact z
    have es : nI j - nI g = nI (j - g) := pk_sub (by omega)
    have hcs : (nI (j - g)).toNatClampNeg = j - g := nI_clamp (by omega)
    have hle' : B (nI j - nI g).toNatClampNeg ≤ B (nI j).toNatClampNeg := by rw [es, hcs, hcl]; exact hle
    have hin' : vp_in (nI j - nI g) 16 := by rw [es]; exact vp_in_nI (by omega) (by decide)
    exact br_f h16 (br_f (nI_nlt (by omega) (by omega)) ⟨hin', hin, br_t hle' (nm_r (nI_1 i) h)⟩)
/-- Y's loop swaps -/
theorem gi_Yg {post : Int32 → SY → Prop} {g i j n : Nat} {c : Int32} {B : Nat → Int32} (hg : g < 16) (hi : i < 16) (hj : j ≤ i) (hB : gi_S B) (hgj : g ≤ j) (hgt : ¬ B (j - g) ≤ B j) (h : wY_pass_16 post (nI g) n (nI i) (nI (j - g)) (c + 1) (upd (upd B j (B (j - g))) (j - g) (B j))) : wY_pass_16 post (nI g) (n + 1) (nI i) (nI j) c B := by
  have h16 : ¬ (16 : Int32) ≤ nI i := nI_ge (b := 16) hi (by decide)
  have hin : vp_in (nI j) 16 := vp_in_nI (by omega) (by decide)
  have hcl : (nI j).toNatClampNeg = j := nI_clamp (by omega)
  have es : nI j - nI g = nI (j - g) := pk_sub (by omega)
  have hcs : (nI (j - g)).toNatClampNeg = j - g := nI_clamp (by omega)
  have hgt' : ¬ B (nI j - nI g).toNatClampNeg ≤ B (nI j).toNatClampNeg := by rw [es, hcs, hcl]; exact hgt
  have hin' : vp_in (nI j - nI g) 16 := by rw [es]; exact vp_in_nI (by omega) (by decide)
  refine br_f h16 (br_f (nI_nlt (by omega) (by omega)) ⟨hin', hin, br_f hgt' ⟨hin, nm_r (e' := B j) (by rw [hcl]) ⟨hin', hin, nm_r (e' := upd B j (B (j - g))) (by rw [hcl, es, hcs, hB]) (nm_r es ⟨hin', ?_⟩)⟩⟩⟩)
  exact nm_r (e' := upd (upd B j (B (j - g))) (j - g) (B j)) (by rw [es, hcs, hB]) (nm_e h)
end
section
/-- one insertion: X holds the lifted value t apart, Y holds it at j -/
theorem gi_in {g i : Nat} (hg1 : 1 ≤ g) (hg : g < 16) (hi : i < 16) (t : Int32) (ht : vp_nar .short t = t) : ∀ d j : Nat, j ≤ d → j ≤ i → ∀ (c : Int32) (m : Int64) (A : Nat → Int32), gi_S A → ∃ (c' : Int32) (m' : Int64) (A' : Nat → Int32), gi_S A' ∧ (∀ (post : Int32 → SX → Prop) (J : Int32 → Int32 → Int64 → (Nat → Int32) → Prop), J c' (nI (i + 1)) m' A' → wX_pass_36 post J (nI g) (nI i) t (d + 1) c (nI j) m A) ∧ (∀ (post : Int32 → SY → Prop) (n : Nat), wY_pass_16 post (nI g) n (nI (i + 1)) (nI (i + 1)) c' A' → ∃ n' : Nat, wY_pass_16 post (nI g) n' (nI i) (nI j) c (upd A j t)) := by
  intro d
  induction d with
  | zero =>
    intro j hd hj c m A hA
    have hlt : j < g := by omega
    exact ⟨c, m, upd A j t, gi_Su hA ht, fun post J h => gi_Xe hg hi hj ht (Or.inl hlt) h, fun post n h => ⟨n + 1, gi_Ye hg hi hj (Or.inl hlt) h⟩⟩
  | succ d ih =>
    intro j hd hj c m A hA
    by_cases hlt : j < g
    · exact ⟨c, m, upd A j t, gi_Su hA ht, fun post J h => gi_Xe hg hi hj ht (Or.inl hlt) h, fun post n h => ⟨n + 1, gi_Ye hg hi hj (Or.inl hlt) h⟩⟩
    · have hne : j - g ≠ j := by omega
      have e1 : upd A j t (j - g) = A (j - g) := pk_un hne
      have e2 : upd A j t j = t := pk_us
      by_cases hle : A (j - g) ≤ t
      · exact ⟨c, m, upd A j t, gi_Su hA ht, fun post J h => gi_Xe hg hi hj ht (Or.inr hle) h, fun post n h => ⟨n + 1, gi_Ye hg hi hj (Or.inr (by rw [e1, e2]; exact hle)) h⟩⟩
      · obtain ⟨c', m', A', hA', hX, hY⟩ := ih (j - g) (by omega) (by omega) (c + 1) (m + 1) (upd A j (A (j - g))) (gi_Su hA (hA _))
        refine ⟨c', m', A', hA', fun post J h => gi_Xg hg hi hj hA (by omega) hle (hX post J h), fun post n h => ?_⟩
        obtain ⟨n', h'⟩ := hY post n h
        refine ⟨n' + 1, gi_Yg hg hi hj (gi_Su hA ht) (by omega) (by rw [e1, e2]; exact hle) ?_⟩
        rw [e1, e2, gi_swap A t hne]
        exact h'
/-- the whole pass -/
theorem gi_out {g : Nat} (hg1 : 1 ≤ g) (hg : g < 16) : ∀ d i : Nat, i + d = 16 → ∀ (c : Int32) (m : Int64) (A : Nat → Int32), gi_S A → ∃ (c' : Int32) (m' : Int64) (A' : Nat → Int32), gi_S A' ∧ (∀ post : Int32 → SX → Prop, post c' (m', A') → wX_pass_19 post (nI g) (d + 1) c (nI i) m A) ∧ (∀ post : Int32 → SY → Prop, post c' (c', A') → ∃ n : Nat, wY_pass_16 post (nI g) n (nI i) (nI i) c A) := by
  intro d
  induction d with
  | zero =>
    intro i hd c m A hA
    have h1 : (15 : Int32) < nI i := nI_lt (a := 15) (by omega) (by omega)
    have h2 : (16 : Int32) ≤ nI i := nI_le (a := 16) (by omega) (by omega)
    exact ⟨c, m, A, hA, fun post h => br_t h1 h, fun post h => ⟨1, br_t h2 h⟩⟩
  | succ d ih =>
    intro i hd c m A hA
    have h1 : ¬ (15 : Int32) < nI i := nI_nlt (a := 15) (by omega) (by decide)
    have hin : vp_in (nI i) 16 := vp_in_nI (by omega) (by decide)
    have hcl : (nI i).toNatClampNeg = i := nI_clamp (by omega)
    obtain ⟨c1, m1, A1, hA1, hX1, hY1⟩ := gi_in hg1 hg (i := i) (by omega) (A i) (hA i) i i (by omega) (by omega) c m A hA
    obtain ⟨c2, m2, A2, hA2, hX2, hY2⟩ := ih (i + 1) (by omega) c1 m1 A1 hA1
    rw [gi_self] at hY1
    refine ⟨c2, m2, A2, hA2, fun post h => br_f h1 ⟨hin, nm_r (e' := A i) (by rw [hcl]) ⟨i + 1, hX1 post _ (hX2 post h)⟩⟩, fun post h => ?_⟩
    obtain ⟨n, h'⟩ := hY2 post h
    exact hY1 post n h'
/-- the scan of gapSorted -/
theorem gi_scan {g : Nat} (hg : g < 16) (m : Int64) (m' : Int32) (A : Nat → Int32) : ∀ d i : Nat, i + d = 16 → g ≤ i → ∃ r : Int32, (∀ post : Int32 → Prop, post r → wX_gapSorted_17 post (nI g) m A (d + 1) (nI i)) ∧ (∀ post : Int32 → Prop, post r → wY_gapSorted_9 post (nI g) m' A (d + 1) (nI i)) := by
  intro d
  induction d with
  | zero =>
    intro i hd hgi
    have h1 : (15 : Int32) < nI i := nI_lt (a := 15) (by omega) (by omega)
    have h2 : (16 : Int32) ≤ nI i := nI_le (a := 16) (by omega) (by omega)
    exact ⟨1, fun post h => br_t h1 h, fun post h => br_t h2 h⟩
  | succ d ih =>
    intro i hd hgi
    have h1 : ¬ (15 : Int32) < nI i := nI_nlt (a := 15) (by omega) (by decide)
    have h2 : ¬ (16 : Int32) ≤ nI i := nI_ge (b := 16) (by omega) (by decide)
    have hin : vp_in (nI i) 16 := vp_in_nI (by omega) (by decide)
    have hin' : vp_in (nI i - nI g) 16 := by rw [pk_sub hgi]; exact vp_in_nI (by omega) (by decide)
    by_cases z : A (nI i - nI g).toNatClampNeg ≤ A (nI i).toNatClampNeg
    · obtain ⟨r, hX, hY⟩ := ih (i + 1) (by omega) (by omega)
      exact ⟨r, fun post h => br_f h1 ⟨hin', hin, br_t z (nm_r (nI_1 i) (hX post h))⟩, fun post h => br_f h2 ⟨hin', hin, br_t z (nm_r (nI_1 i) (hY post h))⟩⟩
    · exact ⟨0, fun post h => br_f h1 ⟨hin', hin, br_f z h⟩, fun post h => br_f h2 ⟨hin', hin, br_f z h⟩⟩
end
section
/-- the two arrays are one, and hold shorts; the counters are free -/
def i_Rel (_ : Nat) (u : SX) (v : SY) : Prop := u.2 = v.2 ∧ gi_S u.2
theorem i_up {k : Nat} {u : SX} {v : SY} (h : i_Rel k u v) : i_Rel (k + 3) u v := h
theorem i_vc0 : wpX_init (fun u => wpY_init (fun v => i_Rel 0 u v)) := ⟨rfl, gi_S0⟩
theorem gi_ix {x : Int32} (h0 : ¬ x < 0) (h1 : x ≤ 15) : vp_in x 16 := by
  obtain ⟨j, hj, rfl⟩ := nI_of2 (M := 15) (n := 15) (by decide) h0 h1
  exact vp_in_nI (by omega) (by decide)
theorem i_vc_put {k : Nat} {u : SX} {v : SY} (I : i_Rel k u v) (hk : k + 3 ≤ 1536) (v1 : Int32) (v2 : Int32) : wpX_put (fun r u' => wpY_put (fun r' v' => r' = r ∧ i_Rel (k + 3) u' v') v v1 v2) u v1 v2 := by
  obtain ⟨m, a⟩ := u
  obtain ⟨m', b⟩ := v
  obtain ⟨e, hs⟩ := I
  cases (show a = b from e)
  by_cases h0 : v1 < 0
  · exact br_t h0 (br_t h0 ⟨rfl, rfl, hs⟩)
  · by_cases h1 : v1 ≤ 15
    · have hin := gi_ix h0 h1
      exact br_f h0 (br_t h1 ⟨hin, nm_e (br_f h0 (br_t h1 ⟨hin, nm_e ⟨rfl, rfl, gi_Su hs (gi_nar _)⟩⟩))⟩)
    · exact br_f h0 (br_f h1 (br_f h0 (br_f h1 ⟨rfl, rfl, hs⟩)))
theorem i_vc_pass {k : Nat} {u : SX} {v : SY} (I : i_Rel k u v) (hk : k + 3 ≤ 1536) (v1 : Int32) : wpX_pass (fun r u' => wpY_pass (fun r' v' => r' = r ∧ i_Rel (k + 3) u' v') v v1) u v1 := by
  obtain ⟨m, a⟩ := u
  obtain ⟨m', b⟩ := v
  obtain ⟨e, hs⟩ := I
  cases (show a = b from e)
  rcases gi_arg v1 with h | ⟨h1, h2, h3⟩ | ⟨h1, h2, g, hg1, hg, rfl⟩
  · exact br_f h (br_f h ⟨rfl, rfl, hs⟩)
  · exact br_t h1 (br_f h2 (br_t h1 ⟨1, br_t h3 ⟨rfl, rfl, hs⟩⟩))
  · obtain ⟨c', mm, A', hA', hX, hY⟩ := gi_out hg1 hg (16 - g) g (by omega) 0 m a hs
    exact br_t h1 (br_t h2 ⟨_, hX _ (br_t h1 (hY _ ⟨rfl, rfl, hA'⟩))⟩)
theorem i_vc_at {k : Nat} {u : SX} {v : SY} (I : i_Rel k u v) (hk : k + 3 ≤ 1536) (v1 : Int32) : wpX_at (fun r => wpY_at (fun r' => r' = r ∧ i_Rel (k + 3) u v) v v1) u v1 := by
  obtain ⟨m, a⟩ := u
  obtain ⟨m', b⟩ := v
  obtain ⟨e, hs⟩ := I
  cases (show a = b from e)
  by_cases h0 : v1 < 0
  · exact br_t h0 (br_t h0 ⟨rfl, rfl, hs⟩)
  · by_cases h1 : v1 ≤ 15
    · have hin := gi_ix h0 h1
      exact br_f h0 (br_t h1 ⟨hin, br_f h0 (br_t h1 ⟨hin, rfl, rfl, hs⟩)⟩)
    · exact br_f h0 (br_f h1 (br_f h0 (br_f h1 ⟨rfl, rfl, hs⟩)))
theorem i_vc_gapSorted {k : Nat} {u : SX} {v : SY} (I : i_Rel k u v) (hk : k + 3 ≤ 1536) (v1 : Int32) : wpX_gapSorted (fun r => wpY_gapSorted (fun r' => r' = r ∧ i_Rel (k + 3) u v) v v1) u v1 := by
  obtain ⟨m, a⟩ := u
  obtain ⟨m', b⟩ := v
  obtain ⟨e, hs⟩ := I
  cases (show a = b from e)
  rcases gi_arg v1 with h | ⟨h1, h2, h3⟩ | ⟨h1, h2, g, hg1, hg, rfl⟩
  · exact br_f h (br_f h ⟨rfl, rfl, hs⟩)
  · exact br_t h1 (br_f h2 (br_t h1 ⟨1, br_t h3 ⟨rfl, rfl, hs⟩⟩))
  · obtain ⟨r, hX, hY⟩ := gi_scan hg m m' a (16 - g) g (by omega) (Nat.le_refl g)
    exact br_t h1 (br_t h2 ⟨_, hX _ (br_t h1 ⟨_, hY _ ⟨rfl, rfl, hs⟩⟩)⟩)
end
