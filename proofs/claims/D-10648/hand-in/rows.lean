section
/-! ===== the automaton's methods, over any arrays ===== -/
section
variable {tl pl b sc ls ra : Int32} {a1 a2 a3 a4 a5 a6 a7 a8 a9 : Nat → Int32}
/-- the four places of a new state are cleared -/
def rf_c (a : Nat → Int32) (k : Nat) : Nat → Int32 := upd (upd (upd (upd a (4 * k) 0) (4 * k + 1) 0) (4 * k + 2) 0) (4 * k + 3) 0
theorem rf_ix (k l : Nat) : (4 : Int32) * nI k + nI l = nI (4 * k + l) := by
  rw [← nI_add, ← pk_mul]
  rfl
theorem rf_ix0 (l : Nat) : (4 : Int32) * 0 + nI l = nI l := by
  have h := rf_ix 0 l
  rw [nI_0, Nat.mul_zero, Nat.zero_add] at h
  exact h
theorem rf_new {post : Int32 → St2 → Prop} {p0 p1 : Int32} {k : Nat} (hk : k < 50)
    (h : post (nI k) (tl, pl, b, nI (k + 1), ls, ra, a1, a2, rf_c a3 k, upd a4 k (-1), upd a5 k p0.toInt8.toInt32, upd a6 k 0, upd a7 k p1.toInt8.toInt32, a8, a9)) :
    wpX_newState post (tl, pl, b, nI k, ls, ra, a1, a2, a3, a4, a5, a6, a7, a8, a9) p0 p1 := by
  have hc : (nI k).toNatClampNeg = k := nI_clamp (by omega)
  have S : ∀ (n l : Nat) (a c4 c5 c6 c7 : Nat → Int32), l < 4 → wX_newState_48 post (nI k) tl pl b (nI (k + 1)) ls ra n (nI (l + 1)) a1 a2 (upd a (4 * k + l) 0) c4 c5 c6 c7 a8 a9 → wX_newState_48 post (nI k) tl pl b (nI (k + 1)) ls ra (n + 1) (nI l) a1 a2 a c4 c5 c6 c7 a8 a9 := by
    intro n l a c4 c5 c6 c7 hl g
    refine pk_le 4 l (fun z => absurd z (by omega)) (fun _ => ⟨pk_in (4 * k + l) 200 (by omega) (rf_ix k l), nm_r (e' := upd a (4 * k + l) 0) (by rw [rf_ix, nI_clamp (by omega)]) (nm_r (nI_1 l) g)⟩)
  refine nm_r (nI_1 k) ⟨pk_in k 50 hk, nm_r (e' := upd a5 k p0.toInt8.toInt32) (by rw [hc]) ⟨pk_in k 50 hk, nm_r (e' := upd a7 k p1.toInt8.toInt32) (by rw [hc]) ⟨pk_in k 50 hk, nm_r (e' := upd a6 k 0) (by rw [hc]) ⟨pk_in k 50 hk, nm_r (e' := upd a4 k (-1)) (by rw [hc]) ⟨5, ?_⟩⟩⟩⟩⟩
  exact S 4 0 _ _ _ _ _ (by omega) (S 3 1 _ _ _ _ _ (by omega) (S 2 2 _ _ _ _ _ (by omega) (S 1 3 _ _ _ _ _ (by omega) (pk_le 4 4 (fun _ => h) (fun z => absurd z (by omega))))))
/-! orderByLength -/
theorem rf_ord1 {post : St2 → Prop} (h : post (tl, pl, b, nI 1, ls, ra, a1, a2, a3, a4, a5, a6, a7, a8, upd a9 0 0)) : wpX_orderByLength post (tl, pl, b, nI 1, ls, ra, a1, a2, a3, a4, a5, a6, a7, a8, a9) :=
  ⟨2, br_f (by decide) ⟨1, br_t (by decide) ⟨pk_in 0 50 (by decide), nm_r (e' := upd a9 0 0) rfl (nm_r (e' := nI 1) rfl (br_t (by decide) h))⟩⟩⟩
theorem rf_ord2 {post : St2 → Prop} (h5 : a5 0 ≤ a5 1) (h : post (tl, pl, b, nI 2, ls, ra, a1, a2, a3, a4, a5, a6, a7, a8, upd (upd a9 0 0) 1 1)) : wpX_orderByLength post (tl, pl, b, nI 2, ls, ra, a1, a2, a3, a4, a5, a6, a7, a8, a9) := by
  have e0 : upd a9 0 0 (nI 1 - 1).toNatClampNeg = nI 0 := rfl
  refine ⟨3, br_f (by decide) ⟨1, br_t (by decide) ⟨pk_in 0 50 (by decide), nm_r (e' := upd a9 0 0) rfl (nm_r (e' := nI 1) rfl ?_)⟩⟩⟩
  refine br_f (by decide) ⟨1, br_f (by decide) ⟨pk_in 0 50 (by decide), pk_in 0 50 (by decide) e0, pk_in 1 50 (by decide), br_t ?_ ⟨pk_in 1 50 (by decide), nm_r (e' := upd (upd a9 0 0) 1 1) rfl (nm_r (e' := nI 2) rfl (br_t (by decide) h))⟩⟩⟩
  rw [e0]
  exact h5
/-! countTimes -/
theorem rf_ct1 {post : St2 → Prop} (h : post (tl, pl, b, nI 1, ls, ra, a1, a2, a3, a4, a5, a6, a7, a8, a9)) : wpX_countTimes post (tl, pl, b, nI 1, ls, ra, a1, a2, a3, a4, a5, a6, a7, a8, a9) :=
  nm_r (e' := nI 0) rfl ⟨1, br_t (by decide) h⟩
theorem rf_ct2 {post : St2 → Prop} (h9 : a9 1 = nI 1) (h4 : a4 1 = nI 0) (h : ∀ x, post (tl, pl, b, nI 2, ls, ra, a1, a2, a3, a4, a5, upd a6 0 x, a7, a8, a9)) : wpX_countTimes post (tl, pl, b, nI 2, ls, ra, a1, a2, a3, a4, a5, a6, a7, a8, a9) := by
  have e4 : a4 (nI 1).toNatClampNeg = nI 0 := h4
  refine nm_r (e' := nI 1) rfl ⟨2, br_f (by decide) ⟨pk_in 1 50 (by decide), nm_r (e' := nI 1) h9 ⟨pk_in 1 50 (by decide), pk_in 0 50 (by decide) e4, pk_in 1 50 (by decide), pk_in 0 50 (by decide) e4, ?_⟩⟩⟩
  rw [e4]
  exact nm_e (nm_r (e' := nI 0) rfl (br_t (by decide) (h _)))
/-! countWords: c l tells whether letter l leads on from the state s -/
theorem rf_cw23 {post : St2 → Prop} {J : Int32 → (Nat → Int32) → (Nat → Int32) → (Nat → Int32) → (Nat → Int32) → (Nat → Int32) → (Nat → Int32) → (Nat → Int32) → (Nat → Int32) → (Nat → Int32) → Prop} {x1 : Int32} {s : Nat} (hs : s < 50) (c : Nat → Nat)
    (hc : ∀ l, l < 4 → a3 (4 * s + l) = nI (c l)) (h8 : ∀ l, l < 4 → c l = 0 ∨ (c l = 1 ∧ a8 1 = 0))
    (H : J (x1 + (-1)) a1 a2 a3 a4 a5 a6 a7 (upd a8 s (nI (0 + c 0 + c 1 + c 2 + c 3)).toInt16.toInt32) a9) :
    ∃ n, wX_countWords_23 post J x1 (nI s) tl pl b sc ls ra a1 a2 a3 a4 a5 a6 a7 a8 a9 n 0 0 := by
  have S : ∀ n l w : Nat, l < 4 → wX_countWords_23 post J x1 (nI s) tl pl b sc ls ra a1 a2 a3 a4 a5 a6 a7 a8 a9 n (nI (w + c l)) (nI (l + 1)) → wX_countWords_23 post J x1 (nI s) tl pl b sc ls ra a1 a2 a3 a4 a5 a6 a7 a8 a9 (n + 1) (nI w) (nI l) := by
    intro n l w hl g
    have hx : a3 ((4 : Int32) * nI s + nI l).toNatClampNeg = nI (c l) := by rw [rf_ix, nI_clamp (by omega)]; exact hc l hl
    refine pk_le 4 l (fun z => absurd z (by omega)) (fun _ => ⟨pk_in (4 * s + l) 200 (by omega) (rf_ix s l), nm_r hx ?_⟩)
    rcases h8 l hl with e | ⟨e, e8⟩
    · rw [e] at g ⊢
      exact br_t rfl (nm_r (nI_1 l) g)
    · rw [e] at g ⊢
      have e8' : a8 (nI 1).toNatClampNeg = 0 := e8
      refine br_f (by decide) ⟨pk_in 1 50 (by decide), nm_r (e' := nI (w + 1)) ?_ (nm_r (nI_1 l) g)⟩
      rw [e8', nI_succ]
      rfl
  refine ⟨5, S 4 0 0 (by omega) (S 3 1 _ (by omega) (S 2 2 _ (by omega) (S 1 3 _ (by omega) ?_)))⟩
  exact pk_le 4 4 (fun _ => ⟨pk_in s 50 hs, nm_r (e' := upd a8 s (nI (0 + c 0 + c 1 + c 2 + c 3)).toInt16.toInt32) (by rw [nI_clamp (by omega)]) (nm_e H)⟩) (fun z => absurd z (by omega))
theorem rf_cw1 {post : St2 → Prop} (h9 : a9 0 = nI 0) (h3 : ∀ l, l < 4 → a3 l = nI 0) (h : ∀ x, post (tl, pl, b, nI 1, ls, ra, a1, a2, a3, a4, a5, a6, a7, upd a8 0 x, a9)) : wpX_countWords post (tl, pl, b, nI 1, ls, ra, a1, a2, a3, a4, a5, a6, a7, a8, a9) :=
  nm_r (e' := nI 0) rfl ⟨2, br_f (by decide) ⟨pk_in 0 50 (by decide), nm_r (e' := nI 0) h9 (rf_cw23 (s := 0) (by decide) (fun _ => 0) (fun l hl => by rw [Nat.mul_zero, Nat.zero_add]; exact h3 l hl) (fun _ _ => Or.inl rfl) (br_t (by decide) (h _)))⟩⟩
theorem rf_cw2 {post : St2 → Prop} {k : Nat} (h90 : a9 0 = nI 0) (h91 : a9 1 = nI 1) (h3 : ∀ l, l < 4 → a3 l = nI (if l = k then 1 else 0)) (h34 : ∀ l, l < 4 → a3 (4 + l) = nI 0) (h : ∀ x, post (tl, pl, b, nI 2, ls, ra, a1, a2, a3, a4, a5, a6, a7, upd (upd a8 1 0) 0 x, a9)) : wpX_countWords post (tl, pl, b, nI 2, ls, ra, a1, a2, a3, a4, a5, a6, a7, a8, a9) := by
  refine nm_r (e' := nI 1) rfl ⟨3, br_f (by decide) ⟨pk_in 1 50 (by decide), nm_r (e' := nI 1) h91 (rf_cw23 (s := 1) (by decide) (fun _ => 0) (fun l hl => h34 l hl) (fun _ _ => Or.inl rfl) ?_)⟩⟩
  show wX_countWords_7 post tl pl b (nI 2) ls ra 2 (nI 0) a1 a2 a3 a4 a5 a6 a7 (upd a8 1 0) a9
  refine br_f (by decide) ⟨pk_in 0 50 (by decide), nm_r (e' := nI 0) h90 (rf_cw23 (s := 0) (by decide) (fun l => if l = k then 1 else 0) (fun l hl => by rw [Nat.mul_zero, Nat.zero_add]; exact h3 l hl) (fun l _ => ?_) (br_t (by decide) (h _)))⟩
  by_cases e : l = k
  · exact Or.inr ⟨if_pos e, rfl⟩
  · exact Or.inl (if_neg e)
/-! extend: the first letter -/
theorem rf_ext {post : St2 → Prop} {k : Nat} (hk : k < 4) (h3 : a3 k = 0) (h4 : a4 0 = -1)
    (h : post (tl, pl, b, nI 2, nI 1, ra, a1, a2, upd (rf_c a3 1) k 1, upd (upd a4 1 (-1)) 1 0, upd a5 1 1, upd (upd a6 1 0) 1 1, upd a7 1 0, a8, a9)) :
    wpX_extend post (tl, pl, b, nI 1, nI 0, ra, a1, a2, a3, a4, a5, a6, a7, a8, a9) (nI k) (nI 0) := by
  unfold wpX_extend
  have hx : (4 : Int32) * nI 0 + nI k = nI k := rf_ix0 k
  have hc : ((4 : Int32) * nI 0 + nI k).toNatClampNeg = k := by rw [hx, nI_clamp (by omega)]
  have hr : rf_c a3 1 ((4 : Int32) * nI 0 + nI k).toNatClampNeg = 0 := by
    rw [hc]
    unfold rf_c
    rw [pk_un (by omega), pk_un (by omega), pk_un (by omega), pk_un (by omega)]
    exact h3
  refine rf_new (k := 1) (by decide) ⟨pk_in 1 50 (by decide), nm_r (e' := upd (upd a6 1 0) 1 1) rfl ⟨2, ?_⟩⟩
  refine br_f (by decide) ⟨pk_in k 200 (by omega) hx, br_t hr ⟨pk_in k 200 (by omega) hx, nm_r (e' := upd (rf_c a3 1) k 1) (by rw [hc]; rfl) ⟨pk_in 0 50 (by decide), nm_r (e' := -1) h4 ?_⟩⟩⟩
  exact br_t (by decide) (br_f (by decide) ⟨pk_in 1 50 (by decide), nm_r (e' := upd (upd a4 1 (-1)) 1 0) rfl h⟩)
end
end
section
/-! ===== the picture: T letters in the text (0 or 1; the letter is k), P letters in the probe (0 or 1; the letter is m) ===== -/
/-- where letter j leads from state 0 -/
def rf_n (T k j : Nat) : Nat := if T = 1 ∧ j = k then 1 else 0
/-- the automaton stands -/
def rf_K (T k P m : Nat) (u : St2) : Prop := match u with
  | (tl, pl, b, sc, _, _, a1, a2, a3, _, a5, a6, _, a8, _) => tl = nI T ∧ pl = nI P ∧ a1 0 = nI k ∧ a2 0 = nI m ∧ ¬ b = 0 ∧ sc = nI (T + 1) ∧ (∀ j, j < 4 → a3 j = nI (rf_n T k j)) ∧ (T = 1 → a5 1 = nI 1 ∧ a6 1 = nI 1 ∧ a8 1 = nI 0)
/-- the automaton stands, or isn't built yet -/
def rf_J (T k P m : Nat) (u : St2) : Prop := match u with
  | (tl, pl, b, sc, ls, ra, a1, a2, a3, a4, a5, a6, a7, a8, a9) => (tl = nI T ∧ pl = nI P ∧ a1 0 = nI k ∧ a2 0 = nI m ∧ b = 0) ∨ rf_K T k P m (tl, pl, b, sc, ls, ra, a1, a2, a3, a4, a5, a6, a7, a8, a9)
theorem rf_KJ {T k P m : Nat} {u : St2} (h : rf_K T k P m u) : rf_J T k P m u := by
  obtain ⟨tl, pl, b, sc, ls, ra, a1, a2, a3, a4, a5, a6, a7, a8, a9⟩ := u
  exact Or.inr h
theorem rf_n_le (T k j : Nat) : rf_n T k j = 0 ∨ (rf_n T k j = 1 ∧ T = 1 ∧ j = k) := by
  unfold rf_n
  by_cases e : T = 1 ∧ j = k
  · exact Or.inr ⟨if_pos e, e⟩
  · exact Or.inl (if_neg e)
section
variable {tl pl b sc ls ra : Int32} {a1 a2 a3 a4 a5 a6 a7 a8 a9 : Nat → Int32}
theorem rf_cz {a : Nat → Int32} : ∀ l, l < 4 → rf_c a 0 l = nI 0 := by
  intro l hl
  have : l = 0 ∨ l = 1 ∨ l = 2 ∨ l = 3 := by omega
  rcases this with rfl | rfl | rfl | rfl <;> rfl
theorem rf_bld0 {post : St2 → Prop} {k P m : Nat} (h1 : a1 0 = nI k) (h2 : a2 0 = nI m) (h : ∀ u, rf_K 0 k P m u → post u) : wpX_build post (nI 0, nI P, 0, sc, ls, ra, a1, a2, a3, a4, a5, a6, a7, a8, a9) := by
  unfold wpX_build
  refine br_t rfl (rf_new (k := 0) (by decide) ⟨1, br_t (by decide) (rf_ord1 (rf_ct1 (rf_cw1 rfl rf_cz (fun x => h _ ?_))))⟩)
  refine ⟨rfl, rfl, h1, h2, by decide, rfl, fun j hj => ?_, fun z => absurd z (by decide)⟩
  rw [rf_cz j hj]
  rcases rf_n_le 0 k j with e | ⟨_, e, _⟩
  · rw [e]
  · exact absurd e (by decide)
theorem rf_bld1 {post : St2 → Prop} {k P m : Nat} (hk : k < 4) (h1 : a1 0 = nI k) (h2 : a2 0 = nI m) (h : ∀ u, rf_K 1 k P m u → post u) : wpX_build post (nI 1, nI P, 0, sc, ls, ra, a1, a2, a3, a4, a5, a6, a7, a8, a9) := by
  unfold wpX_build
  have e1 : a1 (0 : Int32).toNatClampNeg = nI k := h1
  have q3 : ∀ l, l < 4 → upd (rf_c (rf_c a3 0) 1) k 1 l = nI (if l = k then 1 else 0) := by
    intro l hl
    by_cases e : l = k
    · rw [if_pos e, e, pk_us]
      rfl
    · rw [if_neg e, pk_un e]
      have : rf_c (rf_c a3 0) 1 l = rf_c a3 0 l := by
        show upd (upd (upd (upd (rf_c a3 0) 4 0) 5 0) 6 0) 7 0 l = rf_c a3 0 l
        rw [pk_un (by omega), pk_un (by omega), pk_un (by omega), pk_un (by omega)]
      rw [this]
      exact rf_cz l hl
  have q4 : ∀ l, l < 4 → upd (rf_c (rf_c a3 0) 1) k 1 (4 + l) = nI 0 := by
    intro l hl
    rw [pk_un (by omega)]
    have : l = 0 ∨ l = 1 ∨ l = 2 ∨ l = 3 := by omega
    rcases this with rfl | rfl | rfl | rfl <;> rfl
  refine br_t rfl (rf_new (k := 0) (by decide) ⟨2, br_f (by decide) ⟨pk_in 0 24 (by decide), ?_⟩⟩)
  rw [e1]
  refine rf_ext hk (by rw [rf_cz k hk]; rfl) rfl (nm_r (e' := nI 1) rfl (br_t (by decide) (rf_ord2 (show (0 : Int32) ≤ 1 by decide) (rf_ct2 rfl rfl (fun x => rf_cw2 rfl rfl q3 q4 (fun y => h _ ?_))))))
  refine ⟨rfl, rfl, h1, h2, by decide, rfl, fun j hj => ?_, fun _ => ⟨rfl, rfl, rfl⟩⟩
  rw [q3 j hj]
  unfold rf_n
  by_cases e : j = k
  · rw [if_pos e, if_pos ⟨rfl, e⟩]
  · rw [if_neg e, if_neg (fun z => e z.2)]
theorem rf_build {post : St2 → Prop} {T k P m : Nat} {u : St2} (hT : T ≤ 1) (hk : k < 4) (hu : rf_J T k P m u) (h : ∀ u, rf_K T k P m u → post u) : wpX_build post u := by
  obtain ⟨tl, pl, b, sc, ls, ra, a1, a2, a3, a4, a5, a6, a7, a8, a9⟩ := u
  rcases hu with ⟨rfl, rfl, h1, h2, rfl⟩ | hK
  · have hT' : T = 0 ∨ T = 1 := by omega
    rcases hT' with rfl | rfl
    · exact rf_bld0 h1 h2 h
    · exact rf_bld1 hk h1 h2 h
  · exact br_f hK.2.2.2.2.1 (h _ hK)
end
/-! ===== the answers ===== -/
theorem rf_count {post : Int32 → St2 → Prop} {T k P m : Nat} {u : St2} (hT : T ≤ 1) (hk : k < 4) (hP : P ≤ 1) (hm : m < 4) (hu : rf_J T k P m u)
    (h0 : P = 0 → post (-3) u) (h1 : P = 1 → ∀ u', rf_J T k P m u' → post (nI (rf_n T k m)) u') : wpX_count post u := by
  obtain ⟨tl, pl, b, sc, ls, ra, a1, a2, a3, a4, a5, a6, a7, a8, a9⟩ := u
  have hp : pl = nI P := by
    rcases hu with hu | hu
    · exact hu.2.1
    · exact hu.2.1
  have hP' : P = 0 ∨ P = 1 := by omega
  rcases hP' with rfl | rfl
  · exact br_t hp (h0 rfl)
  · unfold wpX_count
    dsimp only
    refine br_f (by rw [hp]; decide) ?_
    unfold wpX_stateOfProbe
    refine rf_build hT hk hu ?_
    rintro ⟨tl', pl', b', sc', ls', ra', b1, b2, b3, b4, b5, b6, b7, b8, b9⟩ hK
    have H := h1 rfl _ (rf_KJ hK)
    obtain ⟨rfl, rfl, k1, k2, kb, rfl, k3, k5⟩ := hK
    have e2 : b2 (0 : Int32).toNatClampNeg = nI m := k2
    refine ⟨2, br_f (by decide) ⟨pk_in 0 12 (by decide), ?_⟩⟩
    rw [e2, rf_ix0, nI_clamp (by omega), k3 m hm]
    refine ⟨pk_in m 200 (by omega), nm_e ?_⟩
    rcases rf_n_le T k m with e | ⟨e, eT, _⟩
    · rw [e] at H ⊢
      exact br_t rfl (br_t rfl H)
    · rw [e] at H ⊢
      have e6 : b6 (nI 1).toNatClampNeg = nI 1 := (k5 eT).2.1
      refine br_f (by decide) (nm_r (e' := nI 1) rfl (br_t (by decide) (br_f (by decide) ⟨pk_in 1 50 (by decide), ?_⟩)))
      dsimp only
      rw [e6]
      exact H
theorem rf_longest {post : Int32 → St2 → Prop} {T k P m : Nat} {u : St2} {t : Int32} (hT : T ≤ 1) (hk : k < 4) (hu : rf_J T k P m u)
    (h0 : t < 1 → post (-2) u) (h1 : ¬ t ≤ 24 → post (-2) u) (h2 : ¬ t < 1 → t ≤ 24 → ∀ u', rf_J T k P m u' → post (if T = 1 ∧ t = 1 then 1 else 0) u') : wpX_longest post u t := by
  obtain ⟨tl, pl, b, sc, ls, ra, a1, a2, a3, a4, a5, a6, a7, a8, a9⟩ := u
  refine br_c h0 (fun g => br_c (fun g2 => ?_) h1)
  refine rf_build hT hk hu ?_
  rintro ⟨tl', pl', b', sc', ls', ra', b1, b2, b3, b4, b5, b6, b7, b8, b9⟩ hK
  have H := h2 g g2 _ (rf_KJ hK)
  obtain ⟨rfl, rfl, k1, k2, kb, rfl, k3, k5⟩ := hK
  have hT' : T = 0 ∨ T = 1 := by omega
  rcases hT' with rfl | rfl
  · rw [if_neg (fun z => absurd z.1 (by decide))] at H
    exact ⟨1, br_t (by decide) H⟩
  · have e5 : b5 (1 : Int32).toNatClampNeg = nI 1 := (k5 rfl).1
    have e6 : b6 (1 : Int32).toNatClampNeg = nI 1 := (k5 rfl).2.1
    refine ⟨2, br_f (by decide) ⟨pk_in 1 50 (by decide), ?_⟩⟩
    rw [e6]
    refine br_c (fun z => nm_r (e' := nI 2) rfl (br_t (by decide) ?_)) (fun z => ⟨pk_in 1 50 (by decide), ?_⟩)
    · rw [if_neg (fun q => absurd z (by rw [q.2]; decide))] at H
      exact H
    · have et : t = 1 := by
        apply Int32.toInt_inj.mp
        rw [Int32.lt_iff_toInt_lt] at z g
        have : (nI 1).toInt = 1 := rfl
        have : (1 : Int32).toInt = 1 := rfl
        omega
      rw [if_pos ⟨rfl, et⟩] at H
      rw [e5]
      exact br_f (by decide) ⟨pk_in 1 50 (by decide), nm_r (e' := nI 1) rfl (nm_r (e' := nI 2) rfl (br_t (by decide) H))⟩
theorem rf_unique {post : Int32 → St2 → Prop} {T k P m : Nat} {u : St2} {p : Int32} (hT : T ≤ 1) (hk : k < 4) (hu : rf_J T k P m u)
    (h0 : ¬ (T = 1 ∧ p = 0) → post (-2) u) (h1 : T = 1 → p = 0 → ∀ u', rf_J T k P m u' → post 1 u') : wpX_unique post u p := by
  obtain ⟨tl, pl, b, sc, ls, ra, a1, a2, a3, a4, a5, a6, a7, a8, a9⟩ := u
  have ht : tl = nI T := by
    rcases hu with hu | hu
    · exact hu.1
    · exact hu.1
  refine br_c (fun g => h0 (fun z => absurd g (by rw [z.2]; decide))) (fun g => ?_)
  subst ht
  have hT' : T = 0 ∨ T = 1 := by omega
  rcases hT' with rfl | rfl
  · exact br_f g (h0 (fun z => absurd z.1 (by decide)))
  · refine br_c (fun g2 => ?_) (fun g2 => h0 (fun z => g2 (by rw [z.2]; decide)))
    have ep : p = 0 := by
      apply Int32.toInt_inj.mp
      rw [Int32.lt_iff_toInt_lt] at g g2
      have : (nI 1).toInt = 1 := rfl
      have : (0 : Int32).toInt = 0 := rfl
      omega
    subst ep
    refine rf_build hT hk hu ?_
    rintro ⟨tl', pl', b', sc', ls', ra', b1, b2, b3, b4, b5, b6, b7, b8, b9⟩ hK
    have H := h1 rfl rfl _ (rf_KJ hK)
    obtain ⟨rfl, rfl, k1, k2, kb, rfl, k3, k5⟩ := hK
    have e1 : b1 (0 : Int32).toNatClampNeg = nI k := k1
    have e6 : b6 (nI 1).toNatClampNeg = nI 1 := (k5 rfl).2.1
    have e3 : b3 k = nI 1 := by
      rw [k3 k hk]
      unfold rf_n
      rw [if_pos ⟨rfl, rfl⟩]
    refine ⟨1, br_f (by decide) ⟨pk_in 0 24 (by decide), ?_⟩⟩
    rw [e1, rf_ix0, nI_clamp (by omega)]
    exact ⟨pk_in k 200 (by omega), nm_r (e' := nI 1) e3 ⟨pk_in 1 50 (by decide), br_t e6 H⟩⟩
/-- the letters below i that lead on -/
def rf_b (T k i : Nat) : Nat := if T = 1 ∧ k < i then 1 else 0
theorem rf_b0 (T k : Nat) : rf_b T k 0 = 0 := if_neg (fun z => absurd z.2 (by omega))
theorem rf_bs (T k i : Nat) : rf_b T k (i + 1) = rf_b T k i + rf_n T k i := by
  unfold rf_b rf_n
  by_cases hT : T = 1
  · rcases Nat.lt_trichotomy k i with e | e | e
    · rw [if_pos ⟨hT, by omega⟩, if_pos ⟨hT, e⟩, if_neg (fun z => absurd z.2 (by omega))]
    · rw [if_pos ⟨hT, by omega⟩, if_neg (fun z => absurd z.2 (by omega)), if_pos ⟨hT, by omega⟩]
    · rw [if_neg (fun z => absurd z.2 (by omega)), if_neg (fun z => absurd z.2 (by omega)), if_neg (fun z => absurd z.2 (by omega))]
  · rw [if_neg (fun z => hT z.1), if_neg (fun z => hT z.1), if_neg (fun z => hT z.1)]
theorem rf_rank {post : Int32 → St2 → Prop} {T k P m : Nat} {u : St2} (hT : T ≤ 1) (hk : k < 4) (hP : P ≤ 1) (hm : m < 4) (hu : rf_J T k P m u)
    (h0 : P = 0 → post (-3) u) (h1 : P = 1 → ∀ u', rf_J T k P m u' → post (nI (rf_b T k m)) u') : wpX_rank post u := by
  obtain ⟨tl, pl, b, sc, ls, ra, a1, a2, a3, a4, a5, a6, a7, a8, a9⟩ := u
  have hp : pl = nI P := by
    rcases hu with hu | hu
    · exact hu.2.1
    · exact hu.2.1
  have hP' : P = 0 ∨ P = 1 := by omega
  rcases hP' with rfl | rfl
  · exact br_t hp (h0 rfl)
  · refine br_f (by rw [hp]; decide) (rf_build hT hk hu ?_)
    rintro ⟨tl', pl', b', sc', ls', ra', b1, b2, b3, b4, b5, b6, b7, b8, b9⟩ hK
    have H := h1 rfl _ (rf_KJ hK)
    obtain ⟨rfl, rfl, k1, k2, kb, rfl, k3, k5⟩ := hK
    have e2 : b2 (0 : Int32).toNatClampNeg = nI m := k2
    refine ⟨2, br_f (by decide) (br_t (by decide) ?_)⟩
    have hI := pk_loop (σ := Unit) (fun n i _ => wX_rank_38 post (wX_rank_20 post (nI T) (nI 1) b' (nI (T + 1)) ls' ra' b1 b2 b3 b4 b5 b6 b7 b8 b9 1) 0 0 (nI T) (nI 1) b' (nI (T + 1)) ls' ra' b1 b2 b3 b4 b5 b6 b7 b8 b9 n (nI (rf_b T k i)) (nI i)) (fun _ _ => True) m 0 () (by omega) trivial ?_ ?_
    · rw [rf_b0] at hI
      exact hI
    · intro n _ _
      refine ⟨pk_in 0 12 (by decide), ?_⟩
      rw [e2]
      refine pk_le m m (fun _ => ⟨pk_in 0 12 (by decide), ?_⟩) (fun z => absurd z (by omega))
      rw [rf_ix0, nI_clamp (by omega), k3 m hm]
      refine ⟨pk_in m 200 (by omega), nm_e (br_c (fun _ => H) (fun _ => nm_r (e' := nI 1) rfl (br_t (by decide) H)))⟩
    · intro n i _ hi _ hw
      have hw' := hw () trivial
      refine ⟨pk_in 0 12 (by decide), ?_⟩
      rw [e2]
      refine pk_le m i (fun z => absurd z (by omega)) (fun _ => ?_)
      rw [rf_ix0, nI_clamp (by omega), k3 i (by omega)]
      refine ⟨pk_in i 200 (by omega), nm_e ?_⟩
      rw [rf_bs] at hw'
      rcases rf_n_le T k i with e | ⟨e, eT, _⟩
      · rw [e] at hw' ⊢
        exact br_t rfl (nm_r (nI_1 i) hw')
      · rw [e] at hw' ⊢
        have e8 : b8 (nI 1).toNatClampNeg = nI 0 := (k5 eT).2.2
        refine br_f (by decide) ⟨pk_in 1 50 (by decide), nm_r (e' := nI (rf_b T k i + 1)) ?_ (nm_r (nI_1 i) hw')⟩
        rw [e8, nI_succ]
        rfl
end
section
/-! ===== the law's joins, from the last check to the first ===== -/
section
variable {post : Int32 → St0 → Prop} {mc ms kc ks : Nat} {x0 x1 x3 x4 z0 z1 : Int32} {T k P m : Nat} {tl pl b sc ls ra : Int32} {a1 a2 a3 a4 a5 a6 a7 a8 a9 : Nat → Int32}
/-- what the law knows of its letters -/
def rf_X (T k P m : Nat) (x0 x1 : Int32) : Prop := T ≤ 1 ∧ k < 4 ∧ P ≤ 1 ∧ m < 4 ∧ (T = 1 → x0 = nI k) ∧ (P = 1 → x1 = nI m)
theorem rf_185 (hX : rf_X T k P m x0 x1) (hu : rf_J T k P m (tl, pl, b, sc, ls, ra, a1, a2, a3, a4, a5, a6, a7, a8, a9)) (hz : z1 = z0) (hp : post 1 ()) : wL_lawOf_185 post mc ms x0 x1 (nI T) (nI P) z0 z1 kc ks tl pl b sc ls ra a1 a2 a3 a4 a5 a6 a7 a8 a9 := by
  obtain ⟨hT, hk, hP, hm, hx0, hx1⟩ := hX
  refine br_t hz (rf_rank hT hk hP hm hu (fun e => ?_) (fun e => ?_))
  · subst e
    exact br_t rfl (br_t rfl hp)
  · rintro ⟨tl', pl', b', sc', ls', ra', b1, b2, b3, b4, b5, b6, b7, b8, b9⟩ _
    subst e
    refine br_f (by decide) (pk_eq T 0 (fun e => ?_) (fun e => ?_))
    · exact br_t (show nI (rf_b T k m) = 0 by unfold rf_b; rw [if_neg (fun z => by omega)]; rfl) hp
    · have eT : T = 1 := by omega
      refine pk_le m k (fun g => ?_) (fun g => ?_) (hx1 rfl) (hx0 eT)
      · exact br_t (show nI (rf_b T k m) = 0 by unfold rf_b; rw [if_neg (fun z => by omega)]; rfl) hp
      · exact br_t (show nI (rf_b T k m) = 1 by unfold rf_b; rw [if_pos ⟨eT, g⟩]; rfl) hp
theorem rf_157 (hX : rf_X T k P m x0 x1) (hu : rf_J T k P m (tl, pl, b, sc, ls, ra, a1, a2, a3, a4, a5, a6, a7, a8, a9)) (hz : z1 = z0) (hp : post 1 ()) : wL_lawOf_157 post mc ms x0 x1 x4 (nI T) (nI P) z0 z1 kc ks tl pl b sc ls ra a1 a2 a3 a4 a5 a6 a7 a8 a9 := by
  have hT := hX.1
  have hk := hX.2.1
  refine br_t hz (rf_unique hT hk hu (fun g => ?_) (fun eT ep => ?_))
  · exact pk_eq T 0 (fun e => rf_185 hX hu rfl hp) (fun e => br_f (fun ep => g ⟨by omega, ep⟩) (rf_185 hX hu rfl hp))
  · rintro ⟨tl', pl', b', sc', ls', ra', b1, b2, b3, b4, b5, b6, b7, b8, b9⟩ hJ
    exact pk_eq T 0 (fun e => absurd e (by omega)) (fun e => br_t ep (rf_185 hX hJ rfl hp))
theorem rf_115 (hX : rf_X T k P m x0 x1) (hu : rf_J T k P m (tl, pl, b, sc, ls, ra, a1, a2, a3, a4, a5, a6, a7, a8, a9)) (hz : z1 = z0) (hp : post 1 ()) : wL_lawOf_115 post mc ms x0 x1 x3 x4 (nI T) (nI P) z0 z1 kc ks tl pl b sc ls ra a1 a2 a3 a4 a5 a6 a7 a8 a9 := by
  have hT := hX.1
  have hk := hX.2.1
  refine br_t hz (rf_longest hT hk hu (fun g => br_t g (rf_157 hX hu rfl hp)) (fun g => br_f ?_ (br_f g (rf_157 hX hu rfl hp))) (fun g g2 => ?_))
  · rw [Int32.le_iff_toInt_le] at g
    rw [Int32.lt_iff_toInt_lt]
    have : (24 : Int32).toInt = 24 := rfl
    have : (1 : Int32).toInt = 1 := rfl
    omega
  · rintro ⟨tl', pl', b', sc', ls', ra', b1, b2, b3, b4, b5, b6, b7, b8, b9⟩ hJ
    refine br_f g (br_t g2 (pk_eq T 0 (fun e => rf_157 hX hJ (if_neg (fun z => by omega)) hp) (fun e => br_c (fun e3 => rf_157 hX hJ (if_pos ⟨by omega, e3⟩) hp) (fun e3 => rf_157 hX hJ (if_neg (fun z => e3 z.2)) hp))))
theorem rf_80 (hX : rf_X T k P m x0 x1) (hu : rf_J T k P m (tl, pl, b, sc, ls, ra, a1, a2, a3, a4, a5, a6, a7, a8, a9)) (hz : z1 = z0) (hp : post 1 ()) : wL_lawOf_80 post mc ms x0 x1 x3 x4 (nI T) (nI P) z0 z1 kc ks tl pl b sc ls ra a1 a2 a3 a4 a5 a6 a7 a8 a9 := by
  obtain ⟨hT, hk, hP, hm, hx0, hx1⟩ := id hX
  refine br_t hz (rf_count hT hk hP hm hu (fun e => ?_) (fun e => ?_))
  · subst e
    exact br_t rfl (rf_115 hX hu rfl hp)
  · rintro ⟨tl', pl', b', sc', ls', ra', b1, b2, b3, b4, b5, b6, b7, b8, b9⟩ hJ
    subst e
    refine br_f (by decide) (pk_eq T 0 (fun e => ?_) (fun e => ?_))
    · exact rf_115 hX hJ (show nI (rf_n T k m) = 0 by unfold rf_n; rw [if_neg (fun z => by omega)]; rfl) hp
    · have eT : T = 1 := by omega
      refine pk_eq k m (fun g => ?_) (fun g => ?_) (hx0 eT) (hx1 rfl)
      · exact rf_115 hX hJ (show nI (rf_n T k m) = 1 by unfold rf_n; rw [if_pos ⟨eT, g.symm⟩]; rfl) hp
      · exact rf_115 hX hJ (show nI (rf_n T k m) = 0 by unfold rf_n; rw [if_neg (fun z => g z.2.symm)]; rfl) hp
/-- ask of a letter that isn't one -/
theorem rf_60 (hT : T ≤ 1) (hk : k < 4) (hx0 : T = 1 → x0 = nI k) (h1 : a1 0 = nI k) (h2 : a2 0 = nI 0) (hx : x1 < 0 ∨ 3 < x1) (hp : post 1 ()) : wL_lawOf_60 post mc ms x0 x1 x3 x4 (nI T) kc ks (nI T) 0 0 sc ls ra a1 a2 a3 a4 a5 a6 a7 a8 a9 := by
  have hX : rf_X T k 0 0 x0 x1 := ⟨hT, hk, by omega, by omega, hx0, fun z => absurd z (by omega)⟩
  have hJ : rf_J T k 0 0 (nI T, 0, 0, sc, ls, ra, a1, a2, a3, a4, a5, a6, a7, a8, a9) := Or.inl ⟨rfl, rfl, h1, h2, rfl⟩
  unfold wL_lawOf_60 wL_lawOf_61
  refine br_t (by decide) (br_c (fun _ => br_t rfl (rf_80 hX hJ rfl hp)) (fun g => br_f ?_ (br_t rfl (rf_80 hX hJ rfl hp))))
  rcases hx with hx | hx
  · exact absurd hx g
  · rw [Int32.lt_iff_toInt_lt] at hx ⊢
    have : (3 : Int32).toInt = 3 := rfl
    have : (4 : Int32).toInt = 4 := rfl
    omega
theorem rf_nb : ∀ k, k < 4 → (nI k).toInt8.toInt32 = nI k := by decide +kernel
theorem rf_n4 : ∀ k, k < 4 → nI k < 4 := by decide +kernel
/-- ask of a letter -/
theorem rf_61 (hT : T ≤ 1) (hk : k < 4) (hx0 : T = 1 → x0 = nI k) (h1 : a1 0 = nI k) (hm : m < 4) (hp : post 1 ()) : wL_lawOf_61 post mc ms x0 (nI m) x3 x4 (nI T) 1 kc ks (nI T) 0 0 sc ls ra a1 a2 a3 a4 a5 a6 a7 a8 a9 := by
  have hX : rf_X T k 1 m x0 (nI m) := ⟨hT, hk, by omega, hm, hx0, fun _ => rfl⟩
  have hJ : rf_J T k 1 m (nI T, nI 1, 0, sc, ls, ra, a1, upd a2 0 (nI m), a3, a4, a5, a6, a7, a8, a9) := Or.inl ⟨rfl, rfl, h1, rfl, rfl⟩
  unfold wL_lawOf_61
  refine br_t (by decide) (br_f (nI_pos (by omega)) (br_t (rf_n4 m hm) ⟨pk_in 0 12 (by decide), nm_r (e' := upd a2 0 (nI m)) (by rw [rf_nb m hm]; rfl) (nm_r (e' := nI 1) rfl (br_f (by decide) (rf_80 hX hJ rfl hp)))⟩))
theorem rf_42 (hT : T ≤ 1) (hk : k < 4) (hx0 : T = 1 → x0 = nI k) (h1 : a1 0 = nI k) (h2 : a2 0 = nI 0) (hz : z1 = z0) (hp : post 1 ()) : wL_lawOf_42 post mc ms x0 x1 x3 x4 (nI T) z0 z1 kc ks (nI T) 0 0 sc ls ra a1 a2 a3 a4 a5 a6 a7 a8 a9 := by
  refine br_t hz (br_c (fun g => rf_60 hT hk hx0 h1 h2 (Or.inl g) hp) (fun g => br_c (fun g2 => rf_60 hT hk hx0 h1 h2 (Or.inr g2) hp) (fun g2 => ?_)))
  obtain ⟨j, hj, rfl⟩ := nI_of2 (x := x1) (M := 3) (n := 3) rfl g (Int32.not_lt.mp g2)
  exact rf_61 hT hk hx0 h1 (by omega) hp
/-- type of a letter that isn't one -/
theorem rf_22 (h1 : a1 0 = nI 0) (h2 : a2 0 = nI 0) (hx : x0 < 0 ∨ 3 < x0) (hp : post 1 ()) : wL_lawOf_22 post mc ms x0 x1 x3 x4 kc ks 0 0 0 sc ls ra a1 a2 a3 a4 a5 a6 a7 a8 a9 := by
  have H : wL_lawOf_42 post mc ms x0 x1 x3 x4 (nI 0) (-2) (-2) kc ks (nI 0) 0 0 sc ls ra a1 a2 a3 a4 a5 a6 a7 a8 a9 := rf_42 (k := 0) (by omega) (by omega) (fun z => absurd z (by omega)) h1 h2 rfl hp
  unfold wL_lawOf_22 wL_lawOf_23
  refine br_t (by decide) (br_c (fun _ => br_t rfl H) (fun g => br_f ?_ (br_t rfl H)))
  rcases hx with hx | hx
  · exact absurd hx g
  · rw [Int32.lt_iff_toInt_lt] at hx ⊢
    have : (3 : Int32).toInt = 3 := rfl
    have : (4 : Int32).toInt = 4 := rfl
    omega
/-- type of a letter -/
theorem rf_23 (hk : k < 4) (h2 : a2 0 = nI 0) (hp : post 1 ()) : wL_lawOf_23 post mc ms (nI k) x1 x3 x4 1 kc ks 0 0 0 sc ls ra a1 a2 a3 a4 a5 a6 a7 a8 a9 := by
  have H : wL_lawOf_42 post mc ms (nI k) x1 x3 x4 (nI 1) 1 (nI 1) kc ks (nI 1) 0 0 sc ls ra (upd a1 0 (nI k)) a2 a3 a4 a5 a6 a7 a8 a9 := rf_42 (k := k) (by omega) hk (fun _ => rfl) rfl h2 rfl hp
  unfold wL_lawOf_23
  refine br_t (by decide) (br_f (nI_pos (by omega)) (br_t (rf_n4 k hk) ⟨pk_in 0 24 (by decide), nm_r (e' := upd a1 0 (nI k)) (by rw [rf_nb k hk]; rfl) (nm_r (e' := nI 1) rfl (br_f (by decide) H))⟩))
end
theorem rf_lawOf {post : Int32 → St0 → Prop} (p0 p1 p2 p3 p4 : Int32) (hp : post 1 ()) : wpL_lawOf post 106 1680 () p0 p1 p2 p3 p4 := by
  refine ⟨by omega, by omega, 9, 536, by omega, by omega, ?_⟩
  refine ⟨by omega, by omega, by omega, by omega, by omega, by omega, by omega, by omega, by omega, by omega, by omega, by omega, by omega, by omega, by omega, by omega, by omega, by omega, ?_⟩
  refine br_c (fun g => rf_22 rfl rfl (Or.inl g) hp) (fun g => br_c (fun g2 => rf_22 rfl rfl (Or.inr g2) hp) (fun g2 => ?_))
  obtain ⟨j, hj, rfl⟩ := nI_of2 (x := p0) (M := 3) (n := 3) rfl g (Int32.not_lt.mp g2)
  exact rf_23 (by omega) rfl hp
theorem rf_cell {post : Int32 → Prop} {L : Nat} {xs : Nat → Int32} {x : Int32} (i : Nat) (hi : i < 5) (hx : x = nI i) (hL : L ≤ 5) (h : ∀ r, post r) : wpL_cellAt post L xs () x :=
  pk_le L i (fun _ => h _) (fun g => ⟨pk_in i L g hx, h _⟩) rfl hx
end
section
theorem i_vc (xs : Nat → Int32) (L : Nat) (hL : L ≤ 5) : wpL_law (fun r => r = 1) L xs := by
  unfold wpL_law
  exact rf_cell 0 (by omega) rfl hL (fun r1 => rf_cell 1 (by omega) rfl hL (fun r2 => rf_cell 2 (by omega) rfl hL (fun r3 => rf_cell 3 (by omega) rfl hL (fun r4 => rf_cell 4 (by omega) rfl hL (fun r5 => ⟨106, 1680, by omega, by omega, rf_lawOf r1 r2 r3 r4 r5 rfl⟩)))))
end
