section
/-- one below a small counter -/
theorem oc_dn : ∀ p, p < 8 → nI p + (-1) < nI p := by decide
/-- the class: a place in range is answered -/
theorem oc_get0 {post : Int32 → Prop} {a : Nat → Int32} {n p : Nat} (hp : p < n) (hn : n ≤ 8) (H : post (a p)) : wpX0_checkedGet post (a, n) (nI p) := by
  unfold wpX0_checkedGet wpJ15_checkIndex_7cf53_48e5c wpJ3_checkIndex_8e157_82e74
  dsimp only
  refine br_f (nI_pos (by omega)) (br_t (nI_lt hp (by omega)) ⟨vp_in_nI hp (by omega), ?_⟩)
  rw [nI_clamp (show p < 2 ^ 31 by omega)]
  exact H
/-- the twin's loop, from place p + d down to p: what was found last stands at p -/
theorem oc_lp {post : Int32 → Prop} {a : Nat → Int32} {n p : Nat} (hn : n ≤ 8) (H : post (a p)) : ∀ (d : Nat) (x : Int32), p + d < n → wX1_checkedGet_7 post (nI p) a n (d + 2) x (nI (p + d)) := by
  intro d
  induction d with
  | zero =>
    intro x h
    unfold wX1_checkedGet_7
    refine br_f (nI_nlt (by omega) (by omega)) ⟨vp_in_nI h (by omega), nm_e (nm_e ?_)⟩
    rw [nI_clamp (show p + 0 < 2 ^ 31 by omega)]
    unfold wX1_checkedGet_7
    exact br_t (oc_dn p (by omega)) H
  | succ d ih =>
    intro x h
    unfold wX1_checkedGet_7
    exact br_f (nI_nlt (by omega) (by omega)) ⟨vp_in_nI h (by omega), nm_e (nm_r (pk_m1 (p + d)) (ih _ (by omega)))⟩
/-- the twin -/
theorem oc_get1 {post : Int32 → Prop} {a : Nat → Int32} {n p : Nat} (hp : p < n) (hn : n ≤ 8) (H : post (a p)) : wpX1_checkedGet post (a, n) (nI p) := by
  obtain ⟨m, rfl⟩ : ∃ m, n = m + 1 := ⟨n - 1, by omega⟩
  obtain ⟨d, rfl⟩ : ∃ d, m = p + d := ⟨m - p, by omega⟩
  unfold wpX1_checkedGet
  dsimp only
  exact nm_r (nI_pred (p + d)) ⟨d + 2, oc_lp hn H d 0 (by omega)⟩
/-- the law's loop: any array; then both answers are the one at the picked place -/
theorem oc_law {post : Int32 → St0 → Prop} {mc ms kc ks : Nat} {x0 x1 x3 : Int32} {N : Nat} (h0 : 0 < N) (hN : N ≤ 8) (H : post 1 ()) : ∃ fu, wL_lawOf_13 post mc ms x0 x1 x3 kc ks N fu 0 (fun _ => 0) := by
  obtain ⟨j, hj, ej⟩ := pk_andE x3 (m := 7) 3 (by decide)
  have hm : j % N < N := Nat.mod_lt _ h0
  refine pk_loop (fun n i s => wL_lawOf_13 post mc ms x0 x1 x3 kc ks N n (nI i) s) (fun _ _ => True) N 0 (fun _ => 0) (by omega) trivial ?_ ?_
  · intro n s _
    refine pk_le N N (fun _ => ⟨nI_ne0 h0 (by omega), nm_r (e' := nI (j % N)) ?_ ?_⟩) (fun z => absurd z (by omega))
    · rw [ej]
      exact pk_rem (by omega) h0 (by omega)
    · exact oc_get0 hm hN (oc_get1 hm hN (br_t rfl H))
  · intro n i s hi _ hw
    refine pk_le N i (fun z => absurd z (by omega)) (fun _ => br_c (fun _ => ⟨vp_in_nI hi (by omega), nm_e (nm_r (nI_1 i) (hw _ trivial))⟩) (fun _ => ⟨vp_in_nI hi (by omega), nm_e (nm_r (nI_1 i) (hw _ trivial))⟩))
/-- the law over four ints -/
theorem oc_of {post : Int32 → St0 → Prop} (p0 p1 p2 p3 : Int32) (H : post 1 ()) : wpL_lawOf post 1 8 () p0 p1 p2 p3 := by
  obtain ⟨j, hj, ej⟩ := pk_andE p2 (m := 7) 3 (by decide)
  have e : (1 : Int32) + (p2 &&& 7) = nI (1 + j) := by
    rw [ej]
    exact nI_add 1 j
  unfold wpL_lawOf
  rw [e]
  exact ⟨nI_pos (by omega), nm_r (nI_clamp (by omega)) ⟨by omega, by omega, by omega, oc_law (by omega) (by omega) H⟩⟩
/-- a cell of the script, or 0 -/
theorem oc_cell {post : Int32 → Prop} {L : Nat} {xs : Nat → Int32} (k : Nat) (hL : L ≤ 4) (hk : k < 4) (H : ∀ x, post x) : wpL_cellAt post L xs () (nI k) := by
  unfold wpL_cellAt
  exact pk_le L k (fun _ => H 0) (fun z => ⟨vp_in_nI z (by omega), H _⟩)
end
section
theorem i_vc (xs : Nat → Int32) (L : Nat) (hL : L ≤ 4) : wpL_law (fun r => r = 1) L xs := by
  unfold wpL_law
  exact oc_cell 0 hL (by omega) (fun a => oc_cell 1 hL (by omega) (fun b => oc_cell 2 hL (by omega) (fun c => oc_cell 3 hL (by omega) (fun d => ⟨1, 8, by omega, by omega, oc_of a b c d rfl⟩))))
end
