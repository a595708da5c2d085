set_option maxRecDepth 100000
set_option maxHeartbeats 4000000
def gI00 (F _i j : Nat) : Int32 := if F = 119 then (-1) else if F = 1900 then 1 else if F = 2000 then 1 else if F = 2001 then 10 else if F = 41 then (upd (upd (upd (upd (upd (upd (upd (upd (upd (upd (upd (upd (upd (upd (upd (upd (upd (upd (fun _ => 0) 12 1) 18 10) 13 1) 19 10) 14 1) 20 10) 15 1) 21 10) 16 1) 22 10) 17 1) 23 10) 0 1) 1 1) 2 1) 3 1) 4 1) 5 1) j else if F = 50 then (upd (upd (upd (upd (upd (upd (fun _ => 0) 0 (-1)) 1 (-1)) 2 (-1)) 3 (-1)) 4 (-1)) 5 (-1)) j else if F = 64 then (upd (upd (upd (upd (upd (upd (fun _ => 0) 0 (-1)) 1 (-1)) 2 (-1)) 3 (-1)) 4 (-1)) 5 (-1)) j else 0
def χ00 : St := (fun _ => 0, gI00, fun _ _ _ => 0, fun _ _ _ => none, fun _ _ => 0, 58, 4716)
def pos00 (c i : Nat) : Nat := if c = 0 then 0 else if c = 1 then 1 else if c = 2 then 2 else if c = 3 then 9 else if c = 4 then 16 else if c = 5 then 17 else if c = 6 then 18 else if c = 7 then 19 else if c = 8 then 20 else if c = 9 then 21 else if c = 10 then 22 else if c = 11 then 23 else if c = 12 then 24 else if c = 13 then 25 else if c = 14 then 26 else if c = 15 then 27 else if c = 16 then 28 else if c = 17 then 29 else if c = 18 then 3 + i else if c = 19 then 10 + i else if c = 40 then 30 else if c = 41 then 31 else if c = 42 then 32 else if c = 43 then 33 else if c = 44 then 34 else if c = 45 then 35 else if c = 46 then 36 else if c = 47 then 37 else if c = 48 then 38 else if c = 49 then 39 else if c = 50 then 40 else if c = 51 then 41 else if c = 52 then 42 else if c = 53 then 43 else if c = 54 then 44 else if c = 55 then 45 else if c = 56 then 46 else if c = 57 then 47 else if c = 58 then 48 else if c = 59 then 49 else if c = 60 then 50 else if c = 61 then 51 else if c = 62 then 52 else if c = 63 then 53 else if c = 64 then 54 else if c = 65 then 55 else if c = 66 then 56 else if c = 67 then 57 else 0
def ad00 (b : Nat) (c i : Nat) : Nat := b + pos00 c i
def vl00 : List (Nat × Nat) := [(0, 0), (1, 0), (2, 0), (3, 0), (4, 0), (5, 0), (6, 0), (7, 0), (8, 0), (9, 0), (10, 0), (11, 0), (12, 0), (13, 0), (14, 0), (15, 0), (16, 0), (17, 0), (18, 0), (18, 1), (18, 2), (18, 3), (18, 4), (18, 5), (19, 0), (19, 1), (19, 2), (19, 3), (19, 4), (19, 5), (40, 0), (41, 0), (42, 0), (43, 0), (44, 0), (45, 0), (46, 0), (47, 0), (48, 0), (49, 0), (50, 0), (51, 0), (52, 0), (53, 0), (54, 0), (55, 0), (56, 0), (57, 0), (58, 0), (59, 0), (60, 0), (61, 0), (62, 0), (63, 0), (64, 0), (65, 0), (66, 0), (67, 0)]
def inv00 : List (Nat × Nat) := [(0, 0), (1, 0), (2, 0), (18, 0), (18, 1), (18, 2), (18, 3), (18, 4), (18, 5), (3, 0), (19, 0), (19, 1), (19, 2), (19, 3), (19, 4), (19, 5), (4, 0), (5, 0), (6, 0), (7, 0), (8, 0), (9, 0), (10, 0), (11, 0), (12, 0), (13, 0), (14, 0), (15, 0), (16, 0), (17, 0), (40, 0), (41, 0), (42, 0), (43, 0), (44, 0), (45, 0), (46, 0), (47, 0), (48, 0), (49, 0), (50, 0), (51, 0), (52, 0), (53, 0), (54, 0), (55, 0), (56, 0), (57, 0), (58, 0), (59, 0), (60, 0), (61, 0), (62, 0), (63, 0), (64, 0), (65, 0), (66, 0), (67, 0)]
def fx00 : List (Nat × Nat) := [(0, 1), (1, 1), (2, 1), (3, 1), (4, 1), (5, 1), (6, 1), (7, 1), (8, 1), (9, 1), (10, 1), (11, 1), (12, 1), (13, 1), (14, 1), (15, 1), (16, 1), (17, 1), (18, 6), (19, 6), (40, 1), (41, 1), (42, 1), (43, 1), (44, 1), (45, 1), (46, 1), (47, 1), (48, 1), (49, 1), (50, 1), (51, 1), (52, 1), (53, 1), (54, 1), (55, 1), (56, 1), (57, 1), (58, 1), (59, 1), (60, 1), (61, 1), (62, 1), (63, 1), (64, 1), (65, 1), (66, 1), (67, 1)]
theorem fcn_spec (c : Nat) : fcn c = 0 ∨ (c, fcn c) ∈ fx00 := by
  unfold fcn
  split <;> first | exact Or.inr (by decide) | exact Or.inl rfl
theorem vl_spec {c i : Nat} (h : i < cn χ00 c) : (c, i) ∈ vl00 := by
  rcases fcn_spec c with hf | hf
  · rw [cn_dyn hf] at h
    exact absurd h (Nat.not_lt_zero _)
  · have key : ∀ q ∈ fx00, ∀ j, j < q.2 → (q.1, j) ∈ vl00 := by decide
    refine key _ hf i ?_
    unfold cn at h
    revert h
    generalize fcn c = n
    cases n with
    | zero => intro h; exact absurd h (Nat.not_lt_zero _)
    | succ n => exact id
theorem pos_spec : ∀ q ∈ vl00, inv00[pos00 q.1 q.2]? = some q := by decide
theorem av_congr {c : ClassId} {n : Nat} {f g : Nat → Value} (h : ∀ j, j < n → f j = g j) : arrV c n f = arrV c n g := by
  apply congrArg (fun s : Array Value => ({ cls := c, slots := s } : Cell))
  apply Array.ext
  · simp
  · intro i h1 h2
    simp at h1 ⊢
    exact h i h1
abbrev cs00 (Γ : Gh) : List va_E := csM Γ (.inr (0, [.ref (Γ.1 + 1), .ref (Γ.1 + 2), .ref (Γ.1 + 9), .int 0, .ref (Γ.1 + 16), .int 0, .int 0, .ref (Γ.1 + 17), .int 0, .ref (Γ.1 + 18), .ref (Γ.1 + 20), .ref (Γ.1 + 21), .ref (Γ.1 + 22), .ref (Γ.1 + 23), .long 0, .ref (Γ.1 + 24), .ref (Γ.1 + 25), .ref (Γ.1 + 26), .int 0, .int (-1), .int 0, .ref (Γ.1 + 27), .ref (Γ.1 + 28), .int 0, .ref (Γ.1 + 29)])) (.inl (Γ.2.2.2 5, 8, .inr (.inr (.inr (.inr (fun _ => none)))))) (.inl (Γ.2.2.2 6, 6, .inr (.inr (.inr (.inr (va_up (va_up (va_up (va_up (va_up (va_up (fun _ => none) 0 (some (Γ.1 + 3))) 1 (some (Γ.1 + 4))) 2 (some (Γ.1 + 5))) 3 (some (Γ.1 + 6))) 4 (some (Γ.1 + 7))) 5 (some (Γ.1 + 8)))))))) (.inr (1, [.int 1, .int 0])) (.inr (1, [.int 1, .int 0])) (.inr (1, [.int 1, .int 0])) (.inr (1, [.int 1, .int 0])) (.inr (1, [.int 1, .int 0])) (.inr (1, [.int 1, .int 0])) (.inl (Γ.2.2.2 7, 6, .inr (.inr (.inr (.inr (va_up (va_up (va_up (va_up (va_up (va_up (fun _ => none) 0 (some (Γ.1 + 10))) 1 (some (Γ.1 + 11))) 2 (some (Γ.1 + 12))) 3 (some (Γ.1 + 13))) 4 (some (Γ.1 + 14))) 5 (some (Γ.1 + 15)))))))) (.inr (2, [.int 1, .int 10, .null])) (.inr (2, [.int 1, .int 10, .null])) (.inr (2, [.int 1, .int 10, .null])) (.inr (2, [.int 1, .int 10, .null])) (.inr (2, [.int 1, .int 10, .null])) (.inr (2, [.int 1, .int 10, .null])) (.inl (Γ.2.2.2 8, 40, .inr (.inr (.inr (.inr (fun _ => none)))))) (.inl (Γ.2.2.2 1, 120, .inl (fun _ => 0))) (.inr (3, [.ref (Γ.1 + 19)])) (.inl (Γ.2.2.2 0, 128, .inl (fun _ => 0))) (.inl (Γ.2.2.2 0, 1080, .inl (fun _ => 0))) (.inl (Γ.2.2.2 3, 180, .inr (.inl (fun _ => 0)))) (.inl (Γ.2.2.2 3, 6, .inr (.inl (fun _ => 0)))) (.inl (Γ.2.2.2 1, 6, .inl (fun _ => 0))) (.inl (Γ.2.2.2 0, 8, .inl (fun _ => 0))) (.inl (Γ.2.2.2 0, 8, .inl (fun _ => 0))) (.inl (Γ.2.2.2 9, 10, .inr (.inr (.inr (.inr (fun _ => none)))))) (.inl (Γ.2.2.2 1, 24, .inl (fun _ => 0))) (.inl (Γ.2.2.2 10, 50, .inr (.inr (.inr (.inr (fun _ => none)))))) (.inl (Γ.2.2.2 11, 6, .inr (.inr (.inr (.inr (fun _ => none))))))
theorem adopt {Γ : Gh} {H : Heap} (h : KW Γ (cs00 Γ) H) : HR Γ (ad00 Γ.1) χ00 H := by
  obtain ⟨h1, h2, h3⟩ := h
  have hat : ∀ q ∈ vl00, va_at Γ.2.2.1 vcl (ad00 Γ.1 q.1 q.2, cE Γ.2.2.2 (ad00 Γ.1) χ00 q.1 q.2) H := by
    intro q hq
    simp only [vl00, List.mem_cons, List.not_mem_nil, or_false] at hq
    rcases hq with rfl | rfl | rfl | rfl | rfl | rfl | rfl | rfl | rfl | rfl | rfl | rfl | rfl | rfl | rfl | rfl | rfl | rfl | rfl | rfl | rfl | rfl | rfl | rfl | rfl | rfl | rfl | rfl | rfl | rfl | rfl | rfl | rfl | rfl | rfl | rfl | rfl | rfl | rfl | rfl | rfl | rfl | rfl | rfl | rfl | rfl | rfl | rfl | rfl | rfl | rfl | rfl | rfl | rfl | rfl | rfl | rfl | rfl
    · exact h2 0 _ rfl
    · exact h2 1 _ rfl
    · have z : H[Γ.1 + 2]? = some (vp_cell (Γ.2.2.2 6) (6, .inr (.inr (.inr (.inr (va_up (va_up (va_up (va_up (va_up (va_up (fun _ => none) 0 (some (Γ.1 + 3))) 1 (some (Γ.1 + 4))) 2 (some (Γ.1 + 5))) 3 (some (Γ.1 + 6))) 4 (some (Γ.1 + 7))) 5 (some (Γ.1 + 8)))))))) := h2 2 _ rfl
      show H[Γ.1 + 2]? = some (vp_cell (Γ.2.2.2 6) (6, .inr (.inr (.inr (.inr (fun j => some (ad00 Γ.1 18 j)))))))
      rw [z, vp_cell_q, vp_cell_q]
      refine congrArg some (av_congr (fun j hj => ?_))
      rcases (show j = 0 ∨ j = 1 ∨ j = 2 ∨ j = 3 ∨ j = 4 ∨ j = 5 by omega) with rfl | rfl | rfl | rfl | rfl | rfl <;> rfl
    · have z : H[Γ.1 + 9]? = some (vp_cell (Γ.2.2.2 7) (6, .inr (.inr (.inr (.inr (va_up (va_up (va_up (va_up (va_up (va_up (fun _ => none) 0 (some (Γ.1 + 10))) 1 (some (Γ.1 + 11))) 2 (some (Γ.1 + 12))) 3 (some (Γ.1 + 13))) 4 (some (Γ.1 + 14))) 5 (some (Γ.1 + 15)))))))) := h2 9 _ rfl
      show H[Γ.1 + 9]? = some (vp_cell (Γ.2.2.2 7) (6, .inr (.inr (.inr (.inr (fun j => some (ad00 Γ.1 19 j)))))))
      rw [z, vp_cell_q, vp_cell_q]
      refine congrArg some (av_congr (fun j hj => ?_))
      rcases (show j = 0 ∨ j = 1 ∨ j = 2 ∨ j = 3 ∨ j = 4 ∨ j = 5 by omega) with rfl | rfl | rfl | rfl | rfl | rfl <;> rfl
    · exact h2 16 _ rfl
    · exact h2 17 _ rfl
    · exact h2 18 _ rfl
    · exact h2 19 _ rfl
    · exact h2 20 _ rfl
    · exact h2 21 _ rfl
    · exact h2 22 _ rfl
    · exact h2 23 _ rfl
    · exact h2 24 _ rfl
    · exact h2 25 _ rfl
    · exact h2 26 _ rfl
    · exact h2 27 _ rfl
    · exact h2 28 _ rfl
    · exact h2 29 _ rfl
    · exact h2 3 _ rfl
    · exact h2 4 _ rfl
    · exact h2 5 _ rfl
    · exact h2 6 _ rfl
    · exact h2 7 _ rfl
    · exact h2 8 _ rfl
    · exact h2 10 _ rfl
    · exact h2 11 _ rfl
    · exact h2 12 _ rfl
    · exact h2 13 _ rfl
    · exact h2 14 _ rfl
    · exact h2 15 _ rfl
    · exact h2 30 _ rfl
    · exact h2 31 _ rfl
    · exact h2 32 _ rfl
    · exact h2 33 _ rfl
    · exact h2 34 _ rfl
    · exact h2 35 _ rfl
    · exact h2 36 _ rfl
    · exact h2 37 _ rfl
    · exact h2 38 _ rfl
    · exact h2 39 _ rfl
    · exact h2 40 _ rfl
    · exact h2 41 _ rfl
    · exact h2 42 _ rfl
    · exact h2 43 _ rfl
    · exact h2 44 _ rfl
    · exact h2 45 _ rfl
    · exact h2 46 _ rfl
    · exact h2 47 _ rfl
    · exact h2 48 _ rfl
    · exact h2 49 _ rfl
    · exact h2 50 _ rfl
    · exact h2 51 _ rfl
    · exact h2 52 _ rfl
    · exact h2 53 _ rfl
    · exact h2 54 _ rfl
    · exact h2 55 _ rfl
    · exact h2 56 _ rfl
    · exact h2 57 _ rfl
  refine ⟨fun c i hi => ⟨hat _ (vl_spec hi), Nat.le_add_right _ _⟩, fun c i c' i' hi hi' e => ?_, h3, by omega, by decide, by decide, fun F i j x e => by cases e⟩
  have e1 := pos_spec _ (vl_spec hi)
  have e2 := pos_spec _ (vl_spec hi')
  have e3 : pos00 c i = pos00 c' i' := by unfold ad00 at e; omega
  rw [e3] at e1
  have e4 := Option.some.inj (e1.symm.trans e2)
  exact ⟨congrArg Prod.fst e4, congrArg Prod.snd e4⟩
