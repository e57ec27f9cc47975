section
/-! the empty queue: least = -1, every low cell -1, every bit cell 0; one lemma a method, its post general -/
theorem fq_z (k : Int32) : ((0 : Int32) >>> k) &&& 1 = 0 := by
  rw [Int32.zero_shiftRight]
  decide +kernel
theorem fq_c : ∀ t, t < 256 → (nI t) >>> ((4 : Int32) &&& 31) = nI (t / 16) := by decide +kernel
theorem fq_l : ∀ t, t < 256 → (nI t) &&& 15 = nI (t % 16) := by decide +kernel
theorem fq_s : ∀ t, t < 16 → (nI t) >>> ((2 : Int32) &&& 31) = nI (t / 4) := by decide +kernel
theorem fq_cell {c u : Nat} (hu : u < 16) : (nI c * 4) + (nI u >>> ((2 : Int32) &&& 31)) = nI (c * 4 + u / 4) := by
  rw [fq_s u hu, show (4 : Int32) = nI 4 from rfl, pk_mul, nI_add]
theorem fq_m1 : (-1 : Int32) < 0 := by decide +kernel
theorem fq_m2 : ¬ (0 : Int32) ≤ -1 := by decide +kernel
theorem fq_n1 {u : Nat} (h : u < 2 ^ 31) : ¬ (-1 : Int32) = nI u := by
  intro e
  have h2 : ¬ nI u < 0 := nI_pos h
  rw [← e] at h2
  exact h2 fq_m1
theorem fq_rng {x : Int32} (h0 : ¬ x < 0) (h2 : ¬ 256 ≤ x) : ∃ t : Nat, t < 256 ∧ x = nI t := by
  obtain ⟨j, hj, rfl⟩ := nI_of h0
  refine ⟨j, ?_, rfl⟩
  rcases Nat.lt_or_ge j 256 with z | z
  · exact z
  · exact absurd (nI_le z hj) h2
theorem fq_inC {post : Int32 → Prop} {f0 f1 f2 : Int32} {a1 a2 a3 : Nat → Int32} {c u : Nat} (hc : c < 17) (hu : u < 16)
    (h1 : ∀ j, j < 17 → a1 j = -1) (hp : post 0) : wpX_inCluster post (f0, f1, f2, a1, a2, a3, fun _ => 0) (nI c) (nI u) := by
  refine ⟨pk_in c 17 hc, br_f ?_ ⟨?_, br_t (fq_z _) hp⟩⟩
  · rw [nI_clamp (show c < 2 ^ 31 by omega), h1 c hc]
    exact fq_n1 (by omega)
  · rw [fq_cell hu]
    exact pk_in (c * 4 + u / 4) 68 (by omega)
theorem fq_mem {post : Int32 → Prop} {f1 f2 x : Int32} {a1 a2 a3 : Nat → Int32} (h1 : ∀ j, j < 17 → a1 j = -1) (hp : post 0) :
    wpX_member post (-1, f1, f2, a1, a2, a3, fun _ => 0) x := by
  refine br_c (fun _ => hp) (fun h0 => br_c (fun _ => hp) (fun h2 => ?_))
  obtain ⟨t, ht, rfl⟩ := fq_rng h0 h2
  refine br_f (fun e => fq_n1 (u := t) (by omega) e.symm) ?_
  rw [fq_c t ht, fq_l t ht]
  exact fq_inC (by omega) (by omega) h1 (br_t rfl hp)
/-- the member call behind the insert: x in range -/
theorem fq_memI {post : Int32 → Prop} {f1 f2 x : Int32} {a1 a2 a3 a4 : Nat → Int32} (h0 : ¬ x < 0) (h2 : ¬ 256 ≤ x) (hp : post 1) :
    wpX_member post (x, f1, f2, a1, a2, a3, a4) x := br_f h0 (br_f h2 (br_t rfl hp))
/-- member out of range, in any state -/
theorem fq_memO {post : Int32 → Prop} {f0 f1 f2 x : Int32} {a1 a2 a3 a4 : Nat → Int32} (h : x < 0 ∨ 256 ≤ x) (hp : post 0) :
    wpX_member post (f0, f1, f2, a1, a2, a3, a4) x :=
  br_c (fun _ => hp) (fun h0 => br_t (h.resolve_left h0) hp)
theorem fq_del {post : Int32 → St2 → Prop} {f1 f2 x : Int32} {a1 a2 a3 : Nat → Int32} (h1 : ∀ j, j < 17 → a1 j = -1)
    (hp : post 0 (-1, f1, f2, a1, a2, a3, fun _ => 0)) : wpX_delete post (-1, f1, f2, a1, a2, a3, fun _ => 0) x := by
  unfold wpX_delete
  exact fq_mem h1 (br_t rfl hp)
theorem fq_after {post : Int32 → Prop} {f1 f2 x : Int32} {a1 a2 a3 a4 : Nat → Int32} (hp : post (-1)) :
    wpX_after post (-1, f1, f2, a1, a2, a3, a4) x := br_t fq_m1 hp
theorem fq_before {post : Int32 → Prop} {f1 f2 x : Int32} {a1 a2 a3 a4 : Nat → Int32} (hp : post (-1)) :
    wpX_before post (-1, f1, f2, a1, a2, a3, a4) x := br_t fq_m1 hp
theorem fq_near {post : Int32 → Prop} {f1 f2 x : Int32} {a1 a2 a3 : Nat → Int32} (h1 : ∀ j, j < 17 → a1 j = -1) (hp : post (-1)) :
    wpX_nearest post (-1, f1, f2, a1, a2, a3, fun _ => 0) x := by
  unfold wpX_nearest
  exact fq_after (fq_mem h1 (br_t rfl (fq_before (br_t fq_m1 (br_f fq_m2 hp)))))
theorem fq_count {post : Int32 → Prop} {f1 f2 x y : Int32} {a1 a2 a3 a4 : Nat → Int32} (hp : post 0) :
    wpX_countBetween post (-1, f1, f2, a1, a2, a3, a4) x y := by
  unfold wpX_countBetween
  have H : ∃ fu : Nat, wX_countBetween_12 post y (-1) f1 f2 a1 a2 a3 a4 fu 0 (-1) 0 :=
    ⟨1, br_f (by decide +kernel) (br_t fq_m1 hp)⟩
  exact br_c (fun _ => fq_after H) (fun _ => H)
theorem fq_gapI {post : Int32 → Prop} {f1 f2 x : Int32} {a1 a2 a3 : Nat → Int32} (h1 : ∀ j, j < 17 → a1 j = -1) (h0 : 0 ≤ x) (h2 : ¬ 256 ≤ x)
    (hp : post x) : wpX_gapFrom post (-1, f1, f2, a1, a2, a3, fun _ => 0) x :=
  br_t h0 ⟨1, br_f h2 (fq_mem h1 (br_t rfl (br_f h2 hp)))⟩
theorem fq_gapO {post : Int32 → Prop} {f0 f1 f2 x : Int32} {a1 a2 a3 a4 : Nat → Int32} (h : ¬ 0 ≤ x ∨ 256 ≤ x)
    (hp : post (-1)) : wpX_gapFrom post (f0, f1, f2, a1, a2, a3, a4) x :=
  br_c (fun h0 => ⟨1, br_t (h.resolve_left (fun z => z h0)) (br_t (h.resolve_left (fun z => z h0)) hp)⟩)
    (fun _ => ⟨1, br_t (by decide +kernel) (br_t (by decide +kernel) hp)⟩)
theorem fq_insI {post : Int32 → St2 → Prop} {f1 f2 x : Int32} {a1 a2 a3 : Nat → Int32} (h1 : ∀ j, j < 17 → a1 j = -1) (h0 : ¬ x < 0) (h2 : ¬ 256 ≤ x)
    (hp : post 1 (x, x, f2 + 1, a1, a2, a3, fun _ => 0)) : wpX_insert post (-1, f1, f2, a1, a2, a3, fun _ => 0) x :=
  br_f h0 (br_f h2 (fq_mem h1 (br_t rfl (nm_e (br_f fq_m2 hp)))))
theorem fq_insO {post : Int32 → St2 → Prop} {f0 f1 f2 x : Int32} {a1 a2 a3 a4 : Nat → Int32} (h : x < 0 ∨ 256 ≤ x)
    (hp : post 0 (f0, f1, f2, a1, a2, a3, a4)) : wpX_insert post (f0, f1, f2, a1, a2, a3, a4) x :=
  br_c (fun _ => hp) (fun h0 => br_t (h.resolve_left h0) hp)
/-- the constructor: the loop writes -1 into low and high -/
theorem fq_fill {s : Nat → Int32} {i : Nat} (h : ∀ j, j < i → s j = -1) : ∀ j, j < i + 1 → upd s i (-1) j = -1 := by
  intro j hj
  by_cases e : j = i
  · rw [e, pk_us]
  · rw [pk_un e]
    exact h j (by omega)
theorem fq_init {post : St2 → Prop} (H : ∀ a1 a2 : Nat → Int32, (∀ j, j < 17 → a1 j = -1) → post (-1, -1, 0, a1, a2, fun _ => 0, fun _ => 0)) :
    wpX_init post 4 119 (0, 0, 0) := by
  refine ⟨by omega, by omega, by omega, by omega, by omega, by omega, by omega, by omega, ?_⟩
  refine pk_loop (σ := (Nat → Int32) × (Nat → Int32)) (fun n i s => wX_init_48 post 4 119 4 119 (-1) (-1) 0 n (nI i) s.1 s.2 (fun _ => 0) (fun _ => 0))
    (fun i s => ∀ j, j < i → s.1 j = -1) 17 0 (fun _ => 0, fun _ => 0) (by omega) (fun j hj => absurd hj (by omega)) ?_ ?_
  · intro n s h
    exact pk_lt 16 17 (fun _ => H s.1 s.2 h) (fun z => absurd z (by omega))
  · intro n i s hi h hw
    refine pk_lt 16 i (fun z => absurd z (by omega)) (fun _ => ⟨pk_in i 17 hi, nm_e ⟨pk_in i 17 hi, nm_e (nm_r (nI_1 i) ?_)⟩⟩)
    refine hw (_, _) ?_
    dsimp only
    rw [nI_clamp (show i < 2 ^ 31 by omega)]
    exact fq_fill h
end
section
theorem fq_at {post : Int32 → Prop} {L : Nat} {xs : Nat → Int32} {x : Int32} (k : Nat) (hL : L ≤ 4) (hk : k < 4) (hp : ∀ y, post y) (hx : x = nI k := by rfl) : wpL_cellAt post L xs () x :=
  pk_le L k (fun _ => hp _) (fun z => ⟨pk_in k L z hx (by omega), hp _⟩) rfl hx (by omega) (by omega)
/-- x in range -/
theorem fq_37I {post : Int32 → St0 → Prop} {mc ms kc ks : Nat} {x a b z f2 : Int32} {a1 a2 a3 : Nat → Int32} (h1 : ∀ j, j < 17 → a1 j = -1) (h0 : ¬ x < 0) (h0' : 0 ≤ x) (h2 : ¬ 256 ≤ x)
    (hp : post 1 ()) : wL_lawOf_37 post mc ms x a b z 1 x kc ks (-1) (-1) f2 a1 a2 a3 (fun _ => 0) := by
  unfold wL_lawOf_37
  exact fq_del h1 (br_t rfl (fq_near h1 (br_t rfl (fq_count (br_t rfl (fq_gapI h1 h0' h2 (br_t rfl (fq_insI h1 h0 h2 (br_t rfl (fq_memI h0 h2 (br_t rfl hp)))))))))))
/-- x out of range -/
theorem fq_37O {post : Int32 → St0 → Prop} {mc ms kc ks : Nat} {x a b z f2 : Int32} {a1 a2 a3 : Nat → Int32} (h1 : ∀ j, j < 17 → a1 j = -1) (h : x < 0 ∨ 256 ≤ x) (h' : ¬ 0 ≤ x ∨ 256 ≤ x)
    (hp : post 1 ()) : wL_lawOf_37 post mc ms x a b z 0 (-1) kc ks (-1) (-1) f2 a1 a2 a3 (fun _ => 0) := by
  unfold wL_lawOf_37
  exact fq_del h1 (br_t rfl (fq_near h1 (br_t rfl (fq_count (br_t rfl (fq_gapO h' (br_t rfl (fq_insO h (br_t rfl (fq_memO h (br_t rfl hp)))))))))))
theorem fq_neg {x : Int32} (h : x < 0) : ¬ 0 ≤ x := by
  rw [Int32.lt_iff_toInt_lt] at h
  rw [Int32.le_iff_toInt_le]
  omega
theorem fq_big {x : Int32} (h : 255 < x) : 256 ≤ x := by
  rw [Int32.lt_iff_toInt_lt] at h
  rw [Int32.le_iff_toInt_le]
  have e1 : (255 : Int32).toInt = 255 := by decide +kernel
  have e2 : (256 : Int32).toInt = 256 := by decide +kernel
  omega
theorem fq_small {x : Int32} (h : ¬ 255 < x) : ¬ 256 ≤ x := by
  rw [Int32.lt_iff_toInt_lt] at h
  rw [Int32.le_iff_toInt_le]
  have e1 : (255 : Int32).toInt = 255 := by decide +kernel
  have e2 : (256 : Int32).toInt = 256 := by decide +kernel
  omega
theorem fq_pos {x : Int32} (h : ¬ x < 0) : 0 ≤ x := by
  rw [Int32.lt_iff_toInt_lt] at h
  rw [Int32.le_iff_toInt_le]
  omega
theorem fq_law {post : Int32 → St0 → Prop} {x a b z : Int32} (hp : post 1 ()) : wpL_lawOf post 5 126 () x a b z := by
  refine ⟨by omega, by omega, 4, 119, by omega, by omega, fq_init (fun a1 a2 h1 => ?_)⟩
  refine br_c (fun h => ?_) (fun h => br_c (fun g => ?_) (fun g => ?_))
  · exact br_t rfl (fq_37O h1 (Or.inl h) (Or.inl (fq_neg h)) hp)
  · exact br_t rfl (fq_37O h1 (Or.inr (fq_big g)) (Or.inr (fq_big g)) hp)
  · exact br_f (by decide +kernel) (fq_37I h1 h (fq_pos h) (fq_small g) hp)
theorem i_vc (xs : Nat → Int32) (L : Nat) (hL : L ≤ 4) : wpL_law (fun r => r = 1) L xs := by
  unfold wpL_law
  exact fq_at 0 hL (by omega) (fun x => fq_at 1 hL (by omega) (fun a => fq_at 2 hL (by omega) (fun b => fq_at 3 hL (by omega) (fun z => ⟨5, 126, by omega, by omega, fq_law rfl⟩))))
end
