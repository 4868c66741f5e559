section
/-! one lemma a method; k is the block that is unsynced (16 or more: none) -/
theorem zl_fill {s : Nat → Int32} {i m : Nat} {c : Int32} (hm : m = i) (h : ∀ j, j < i → s j = c) : ∀ j, j < i + 1 → upd s m c j = c := by
  intro j hj
  rw [hm]
  by_cases e : j = i
  · rw [e, pk_us]
  · rw [pk_un e]
    exact h j (by omega)
/-- an int that isn't a block -/
def zl_bad (x : Int32) : Prop := x < 0 ∨ 16 ≤ x
theorem zl_blk (x : Int32) : zl_bad x ∨ ∃ k : Nat, k < 16 ∧ x = nI k := by
  rcases pk_ix x (n := 16) (by omega) with h | h | h
  · exact Or.inl (Or.inl h)
  · exact Or.inl (Or.inr h)
  · exact Or.inr h
theorem zl_isB {post : Int32 → Prop} {u : St0} {x : Int32} (h : zl_bad x) (hp : post 0) : wpX_isBlock post u x :=
  br_c (fun _ => hp) (fun z => br_t (h.resolve_left z) hp)
theorem zl_isG {post : Int32 → Prop} {u : St0} {k : Nat} (h : k < 16) (hp : post 1) : wpX_isBlock post u (nI k) :=
  br_f (nI_pos (by omega)) (br_f (nI_ge (b := 16) h (by omega)) hp)

section
variable {f1 f2 f3 f4 f5 : Int32} {a1 a2 a3 a4 a5 a6 a7 a8 : Nat → Int32}

theorem zl_i96 {post : St2 → Prop} {mc ms kc ks : Nat} (H : ∀ b6 : Nat → Int32, (∀ j, j < 16 → b6 j = -1) → post (f1, f2, -1, f4, f5, a1, a2, a3, a4, a5, b6, a7, a8)) :
    ∃ n, wX_init_96 post mc ms kc ks f1 f2 f3 f4 f5 n 0 a1 a2 a3 a4 a5 a6 a7 a8 :=
  pk_loop (fun n i s => wX_init_96 post mc ms kc ks f1 f2 f3 f4 f5 n (nI i) a1 a2 a3 a4 a5 s a7 a8) (fun i s => ∀ j, j < i → s j = -1) 16 0 a6 (by omega) (fun j hj => absurd hj (by omega))
    (fun n s h => pk_le 16 16 (fun _ => H s h) (fun z => absurd z (by omega)))
    (fun n i s hi h hw => pk_le 16 i (fun z => absurd z (by omega)) (fun _ => ⟨pk_in i 16 hi, nm_e (nm_r (nI_1 i) (hw _ (zl_fill (nI_clamp (by omega)) h)))⟩))

theorem zl_i75 {post : St2 → Prop} {mc ms kc ks : Nat} (H : ∀ b5 b6 : Nat → Int32, (∀ j, j < 6 → b5 j = -1) → (∀ j, j < 16 → b6 j = -1) → post (f1, f2, -1, f4, f5, a1, a2, a3, a4, b5, b6, a7, a8)) :
    ∃ n, wX_init_75 post mc ms kc ks f1 f2 f3 f4 f5 n 0 a1 a2 a3 a4 a5 a6 a7 a8 :=
  pk_loop (fun n i s => wX_init_75 post mc ms kc ks f1 f2 f3 f4 f5 n (nI i) a1 a2 a3 a4 s a6 a7 a8) (fun i s => ∀ j, j < i → s j = -1) 6 0 a5 (by omega) (fun j hj => absurd hj (by omega))
    (fun n s h => pk_le 6 6 (fun _ => zl_i96 (fun b6 h6 => H s b6 h h6)) (fun z => absurd z (by omega)))
    (fun n i s hi h hw => pk_le 6 i (fun z => absurd z (by omega)) (fun _ => ⟨pk_in i 6 hi, nm_e (nm_r (nI_1 i) (hw _ (zl_fill (nI_clamp (by omega)) h)))⟩))

theorem zl_init {post : St2 → Prop} (H : ∀ b5 b6 : Nat → Int32, (∀ j, j < 6 → b5 j = -1) → (∀ j, j < 16 → b6 j = -1) → post (1, 0, -1, 0, 0, (fun _ => 0), (fun _ => 0), (fun _ => 0), (fun _ => 0), b5, b6, (fun _ => 0), (fun _ => 0))) :
    wpX_init post 8 276 (0, 0, 0, 0, 0) :=
  ⟨by omega, by omega, by omega, by omega, by omega, by omega, by omega, by omega, by omega, by omega, by omega, by omega, by omega, by omega, by omega, by omega, zl_i75 H⟩

/-- how many blocks are unsynced -/
theorem zl_dc {post : Int32 → Prop} {k : Nat} (h8 : ∀ j, j < 16 → (a8 j = 0 ↔ j ≠ k)) (hp : post (nI (if k < 16 then 1 else 0))) :
    wpX_dirtyCount post (f1, f2, f3, f4, f5, a1, a2, a3, a4, a5, a6, a7, a8) := by
  refine pk_loop (fun n i s => wX_dirtyCount_4 post f1 f2 f3 f4 f5 a1 a2 a3 a4 a5 a6 a7 a8 n s (nI i)) (fun i s => s = nI (if k < i then 1 else 0)) 16 0 0 (by omega) (by rw [if_neg (by omega)]; rfl) ?_ ?_
  · intro n s h
    exact pk_le 16 16 (fun _ => by rw [h]; exact hp) (fun z => absurd z (by omega))
  · intro n i s hi h hw
    refine pk_le 16 i (fun z => absurd z (by omega)) (fun _ => ⟨pk_in i 16 hi, ?_⟩)
    rw [nI_clamp (show i < 2 ^ 31 by omega)]
    by_cases e : i = k
    · refine br_f (fun z => (h8 i hi).mp z e) (nm_r (e' := nI 1) ?_ (nm_r (nI_1 i) (hw _ ?_)))
      · rw [h, if_neg (by omega)]
        rfl
      · rw [if_pos (by omega)]
    · refine br_t ((h8 i hi).mpr e) (nm_r (Int32.add_zero s) (nm_r (nI_1 i) (hw _ ?_)))
      rw [h]
      by_cases g : k < i
      · rw [if_pos g, if_pos (by omega)]
      · rw [if_neg g, if_neg (by omega)]

theorem zl_dc1 {post : Int32 → Prop} {k : Nat} (hk : k < 16) (h8 : ∀ j, j < 16 → (a8 j = 0 ↔ j ≠ k)) (hp : post (nI 1)) :
    wpX_dirtyCount post (f1, f2, f3, f4, f5, a1, a2, a3, a4, a5, a6, a7, a8) := zl_dc h8 (by rw [if_pos hk]; exact hp)
theorem zl_dc0 {post : Int32 → Prop} (h8 : ∀ j, j < 16 → a8 j = 0) (hp : post (nI 0)) :
    wpX_dirtyCount post (f1, f2, f3, f4, f5, a1, a2, a3, a4, a5, a6, a7, a8) :=
  zl_dc (k := 16) (fun j hj => ⟨fun _ => by omega, fun _ => h8 j hj⟩) (by rw [if_neg (by omega)]; exact hp)

/-- a record written at place f of zone 0 -/
theorem zl_app {post : Int32 → St2 → Prop} {f : Nat} {p0 p1 : Int32} (hf : f < 12) (h4 : a4 0 = nI f)
    (H : post (nI f) (f1, f2, 0, f4, f5, upd a1 f p0, upd a2 f p1, upd a3 f f4, upd a4 0 (nI (f + 1)), a5, a6, a7, a8)) :
    wpX_append post (f1, f2, 0, f4, f5, a1, a2, a3, a4, a5, a6, a7, a8) p0 p1 := by
  unfold wpX_append
  dsimp only
  have c0 : (0 : Int32).toNatClampNeg = 0 := sb_cl0
  rw [c0, h4]
  refine ⟨pk_in 0 6 (by omega), nm_r (e' := nI f) ?_ ?_⟩
  · rw [Int32.mul_zero, Int32.zero_add]
  rw [nI_clamp (show f < 2 ^ 31 by omega)]
  exact ⟨pk_in f 72 (by omega), nm_e ⟨pk_in f 72 (by omega), nm_e ⟨pk_in f 72 (by omega), nm_e ⟨pk_in 0 6 (by omega), pk_in 0 6 (by omega), nm_r (by rw [nI_1]) H⟩⟩⟩⟩

theorem zl_poor {post : Int32 → Prop} (h5 : ∀ j, 0 < j → j < 6 → a5 j = -1) (hp : post (-1)) :
    wpX_poorest post (f1, f2, 0, f4, f5, a1, a2, a3, a4, a5, a6, a7, a8) := by
  refine pk_loop (σ := Unit) (fun n i _ => wX_poorest_4 post f1 f2 0 f4 f5 a1 a2 a3 a4 a5 a6 a7 a8 n (-1) (nI i)) (fun _ _ => True) 6 0 () (by omega) trivial ?_ ?_
  · exact fun n _ _ => pk_le 6 6 (fun _ => hp) (fun z => absurd z (by omega))
  · intro n i _ hi _ hw
    refine pk_le 6 i (fun z => absurd z (by omega)) (fun _ => pk_eq i 0 (fun _ => nm_r (nI_1 i) (hw () trivial)) (fun z => ⟨pk_in i 6 hi, ?_⟩))
    rw [nI_clamp (show i < 2 ^ 31 by omega)]
    exact br_t (h5 i (by omega) hi) (nm_r (nI_1 i) (hw () trivial))

theorem zl_ez {post : Int32 → Prop} (h0 : ¬ a5 0 = -1) (h5 : ∀ j, 0 < j → j < 6 → a5 j = -1) (hp : post (nI 5)) :
    wpX_emptyZones post (f1, f2, f3, f4, f5, a1, a2, a3, a4, a5, a6, a7, a8) := by
  refine pk_loop (fun n i s => wX_emptyZones_4 post f1 f2 f3 f4 f5 a1 a2 a3 a4 a5 a6 a7 a8 n s (nI i)) (fun i s => s = nI (i - 1)) 6 0 0 (by omega) rfl ?_ ?_
  · exact fun n s h => pk_le 6 6 (fun _ => by rw [h]; exact hp) (fun z => absurd z (by omega))
  · intro n i s hi h hw
    refine pk_le 6 i (fun z => absurd z (by omega)) (fun _ => ⟨pk_in i 6 hi, ?_⟩)
    rw [nI_clamp (show i < 2 ^ 31 by omega)]
    by_cases e : i = 0
    · subst e
      exact br_f h0 (nm_r (Int32.add_zero s) (nm_r (nI_1 0) (hw _ h)))
    · refine br_t (h5 i (by omega) hi) (nm_r (e' := nI i) ?_ (nm_r (nI_1 i) (hw _ rfl)))
      rw [h, nI_1, show i - 1 + 1 = i by omega]

/-- the first room: zone 0 becomes the active one -/
theorem zl_room {post : St2 → Prop} (h5 : ∀ j, j < 6 → a5 j = -1) (H : post (f1, f2, 0, f4, 1, a1, a2, a3, upd a4 0 0, upd a5 0 1, a6, a7, a8)) :
    wpX_makeRoom post (f1, f2, -1, f4, 0, a1, a2, a3, a4, a5, a6, a7, a8) := by
  have c0 : (0 : Int32).toNatClampNeg = 0 := sb_cl0
  have g0 : ¬ upd a5 0 1 0 = -1 := by rw [pk_us]; decide
  have g5 : ∀ j, 0 < j → j < 6 → upd a5 0 1 j = -1 := fun j h1 h2 => by rw [pk_un (by omega)]; exact h5 j h2
  refine br_t rfl ?_
  unfold wX_makeRoom_28 wpX_openZone
  dsimp only
  refine ⟨1, pk_le 6 0 (fun z => absurd z (by omega)) (fun _ => ⟨pk_in 0 6 (by omega), ?_⟩)⟩
  rw [c0]
  refine br_t (h5 0 (by omega)) (nm_r (e' := 1) rfl ⟨pk_in 0 6 (by omega), nm_e ⟨pk_in 0 6 (by omega), nm_e ?_⟩⟩)
  refine ⟨1, pk_le 6 0 (fun z => absurd z (by omega)) (fun _ => zl_poor g5 (zl_ez g0 g5 (br_t ?_ H)))⟩
  decide

theorem zl_drop {post : St2 → Prop} (H : ∀ b8 : Nat → Int32, (∀ j, j < 16 → b8 j = 0) → post (f1, f2, f3, f4, f5, a1, a2, a3, a4, a5, a6, a7, b8)) :
    wpX_dropCache post (f1, f2, f3, f4, f5, a1, a2, a3, a4, a5, a6, a7, a8) :=
  pk_loop (fun n i s => wX_dropCache_2 post f1 f2 f3 f4 f5 n (nI i) a1 a2 a3 a4 a5 a6 a7 s) (fun i s => ∀ j, j < i → s j = 0) 16 0 a8 (by omega) (fun j hj => absurd hj (by omega))
    (fun n s h => pk_le 16 16 (fun _ => H s h) (fun z => absurd z (by omega)))
    (fun n i s hi h hw => pk_le 16 i (fun z => absurd z (by omega)) (fun _ => ⟨pk_in i 16 hi, nm_e (nm_r (nI_1 i) (hw _ (zl_fill (nI_clamp (by omega)) h)))⟩))

theorem zl_fall {post : St2 → Prop} (H : ∀ b6 b8 : Nat → Int32, (∀ j, j < 16 → b6 j = -1) → (∀ j, j < 16 → b8 j = 0) → post (0, 0, -1, f4, f5, a1, a2, a3, a4, a5, b6, a7, b8)) :
    wpX_fall post (f1, f2, f3, f4, f5, a1, a2, a3, a4, a5, a6, a7, a8) := by
  unfold wpX_fall
  dsimp only
  refine zl_drop (fun b8 h8 => ?_)
  exact pk_loop (fun n i s => wX_fall_6 post f1 f2 f3 f4 f5 n (nI i) a1 a2 a3 a4 a5 s a7 b8) (fun i s => ∀ j, j < i → s j = -1) 16 0 a6 (by omega) (fun j hj => absurd hj (by omega))
    (fun n s h => pk_le 16 16 (fun _ => H s b8 h h8) (fun z => absurd z (by omega)))
    (fun n i s hi h hw => pk_le 16 i (fun z => absurd z (by omega)) (fun _ => ⟨pk_in i 16 hi, nm_e (nm_r (nI_1 i) (hw _ (zl_fill (nI_clamp (by omega)) h)))⟩))

end
end
section
/-! flush, crashIn, counts, recover, mount -/
/-- the device after the crash: q records in zone 0 (the block k with v, then its mark), the other zones without records -/
def zl_D (q k : Nat) (v : Int32) (b1 b2 b3 b4 : Nat → Int32) : Prop :=
  q ≤ 2 ∧ b4 0 = nI q ∧ (∀ j, 0 < j → j < 6 → b4 j = nI 0) ∧ (0 < q → k < 16 ∧ b1 0 = nI k ∧ b2 0 = v) ∧ (1 < q → b1 1 = 16 ∧ b3 1 = b3 0)

section
variable {f1 f2 f3 f4 f5 : Int32} {a1 a2 a3 a4 a5 a6 a7 a8 : Nat → Int32}

theorem zl_f33 {post : St2 → Prop} {p k : Nat} (hp1 : 1 ≤ p) (hp3 : p ≤ 3) (hk : k < 16) (h8 : ∀ j, j < 16 → (a8 j = 0 ↔ j ≠ k)) (h4 : a4 0 = nI 0)
    (H3 : p = 3 → ∀ b6 b8 : Nat → Int32, post (f1, f2, 0, f4, f5, upd (upd a1 0 (nI k)) 1 16, upd (upd a2 0 (a7 k)) 1 0, upd (upd a3 0 f4) 1 f4, upd (upd a4 0 (nI 1)) 0 (nI 2), a5, b6, a7, b8))
    (Hn : p ≠ 3 → ∀ b6 : Nat → Int32, post (f1, f2, 0, f4, f5, upd a1 0 (nI k), upd a2 0 (a7 k), upd a3 0 f4, upd a4 0 (nI 1), a5, b6, a7, a8)) :
    ∃ n, wX_flush_33 post (nI p) (nI 1) n 0 0 f1 f2 0 f4 f5 a1 a2 a3 a4 a5 a6 a7 a8 := by
  refine pk_loop (fun n i (s : Int32 × (Nat → Int32) × (Nat → Int32) × (Nat → Int32) × (Nat → Int32) × (Nat → Int32)) => wX_flush_33 post (nI p) (nI 1) n s.1 (nI i) f1 f2 0 f4 f5 s.2.1 s.2.2.1 s.2.2.2.1 s.2.2.2.2.1 a5 s.2.2.2.2.2 a7 a8)
    (fun i s => (i ≤ k ∧ ∃ b6, s = (nI 0, a1, a2, a3, a4, b6)) ∨ (k < i ∧ ∃ b6, s = (nI 1, upd a1 0 (nI k), upd a2 0 (a7 k), upd a3 0 f4, upd a4 0 (nI 1), b6))) 16 0 (nI 0, a1, a2, a3, a4, a6) (by omega) (Or.inl ⟨by omega, a6, rfl⟩) ?_ ?_
  · intro n s h
    rcases h with ⟨z, _⟩ | ⟨_, b6, rfl⟩
    · exact absurd z (by omega)
    · refine pk_le 16 16 (fun _ => pk_eq p 3 (fun z => ?_) (fun z => Hn z b6)) (fun z => absurd z (by omega))
      exact zl_app (f := 1) (by omega) (show upd a4 0 (nI 1) 0 = nI 1 from pk_us) (zl_drop (fun b8 _ => H3 z b6 b8))
  · intro n i s hi h hw
    refine pk_le 16 i (fun z => absurd z (by omega)) (fun _ => ⟨pk_in i 16 hi, ?_⟩)
    rw [nI_clamp (show i < 2 ^ 31 by omega)]
    by_cases e : i = k
    · subst e
      rcases h with ⟨_, b6, rfl⟩ | ⟨z, _⟩
      · have hJ : wX_flush_62 post (wX_flush_33 post (nI p) (nI 1) n) (nI p) (nI 1) (nI 0) (nI i) f1 f2 0 f4 f5 a1 a2 a3 a4 a5 b6 a7 a8 := by
          unfold wX_flush_62
          rw [nI_clamp (show i < 2 ^ 31 by omega)]
          refine ⟨pk_in i 16 hi, zl_app (f := 0) (by omega) h4 (nm_r (nI_1 0) (pk_eq p 3 (fun _ => ⟨pk_in i 16 hi, nm_e (nm_r (nI_1 i) ?_)⟩) (fun _ => nm_r (nI_1 i) ?_)))⟩
          · exact hw (nI 1, upd a1 0 (nI i), upd a2 0 (a7 i), upd a3 0 f4, upd a4 0 (nI 1), upd b6 i (nI 0)) (Or.inr ⟨by omega, _, rfl⟩)
          · exact hw (nI 1, upd a1 0 (nI i), upd a2 0 (a7 i), upd a3 0 f4, upd a4 0 (nI 1), b6) (Or.inr ⟨by omega, _, rfl⟩)
        exact br_f (fun z => (h8 i hi).mp z rfl) (br_c (fun _ => hJ) (fun _ => br_f (show ¬ nI 1 ≤ 2 * nI 0 by decide) hJ))
      · exact absurd z (by omega)
    · refine br_t ((h8 i hi).mpr e) (nm_r (nI_1 i) (hw s ?_))
      rcases h with ⟨z, hb⟩ | ⟨z, hb⟩
      · exact Or.inl ⟨by omega, hb⟩
      · exact Or.inr ⟨by omega, hb⟩

/-- flush of the first records and the crash behind it -/
theorem zl_crash {post : Int32 → St2 → Prop} {p k : Nat} {v : Int32} (hp : p ≤ 3) (h5 : ∀ j, j < 6 → a5 j = -1) (h8 : ∀ j, j < 16 → (a8 j = 0 ↔ j ≠ k)) (h7 : k < 16 → a7 k = v) (h4 : ∀ j, j < 6 → a4 j = nI 0)
    (H : ∀ (q : Nat) (g o : Int32) (b1 b2 b3 b4 b5 b6 b8 : Nat → Int32), zl_D q k v b1 b2 b3 b4 → (q = 2 ↔ (p = 3 ∧ k < 16)) → (∀ j, j < 16 → b6 j = -1) → (∀ j, j < 16 → b8 j = 0) → post 0 (0, 0, -1, g, o, b1, b2, b3, b4, b5, b6, a7, b8)) :
    wpX_crashIn post (1, f2, -1, f4, 0, a1, a2, a3, a4, a5, a6, a7, a8) (nI p) := by
  have h40 : a4 0 = nI 0 := h4 0 (by omega)
  have D0 : zl_D 0 k v a1 a2 a3 a4 := ⟨by omega, h40, fun j _ h => h4 j h, fun z => absurd z (by omega), fun z => absurd z (by omega)⟩
  refine br_f (by decide) (br_f (nI_pos (by omega)) (br_t (nI_le (b := 3) hp (by omega)) ?_))
  unfold wpX_flush
  dsimp only
  refine zl_dc h8 ?_
  by_cases hk : k < 16
  · rw [if_pos hk]
    refine br_f (by decide) (pk_eq p 0 (fun z => ?_) (fun z => ?_))
    · exact zl_fall (fun b6 b8 h6 h8' => H 0 _ _ _ _ _ _ _ b6 b8 D0 ⟨fun t => absurd t (by omega), fun t => absurd t.1 (by omega)⟩ h6 h8')
    · refine zl_room h5 (nm_e ?_)
      have D2 : zl_D 2 k v (upd (upd a1 0 (nI k)) 1 16) (upd (upd a2 0 (a7 k)) 1 0) (upd (upd a3 0 (f4 + 1)) 1 (f4 + 1)) (upd (upd (upd a4 0 0) 0 (nI 1)) 0 (nI 2)) := by
        refine ⟨by omega, pk_us, fun j hj hj6 => ?_, fun _ => ⟨hk, ?_, ?_⟩, fun _ => ⟨pk_us, ?_⟩⟩
        · rw [pk_un (by omega), pk_un (by omega), pk_un (by omega)]
          exact h4 j hj6
        · rw [pk_un (by omega), pk_us]
        · rw [pk_un (by omega), pk_us]
          exact h7 hk
        · rw [pk_us, pk_un (by omega), pk_us]
      have D1 : zl_D 1 k v (upd a1 0 (nI k)) (upd a2 0 (a7 k)) (upd a3 0 (f4 + 1)) (upd (upd a4 0 0) 0 (nI 1)) := by
        refine ⟨by omega, pk_us, fun j hj hj6 => ?_, fun _ => ⟨hk, pk_us, ?_⟩, fun t => absurd t (by omega)⟩
        · rw [pk_un (by omega), pk_un (by omega)]
          exact h4 j hj6
        · rw [pk_us]
          exact h7 hk
      dsimp only
      refine zl_f33 (by omega) hp hk h8 pk_us (fun e b6' b8' => ?_) (fun e b6' => ?_)
      · exact zl_fall (fun b6 b8 h6 h8' => H 2 _ _ _ _ _ _ _ b6 b8 D2 ⟨fun _ => ⟨e, hk⟩, fun _ => rfl⟩ h6 h8')
      · exact zl_fall (fun b6 b8 h6 h8' => H 1 _ _ _ _ _ _ _ b6 b8 D1 ⟨fun t => absurd t (by omega), fun t => absurd t.1 e⟩ h6 h8')
  · rw [if_neg hk]
    exact br_t rfl (zl_fall (fun b6 b8 h6 h8' => H 0 _ _ _ _ _ _ _ b6 b8 D0 ⟨fun t => absurd t (by omega), fun t => absurd t.2 hk⟩ h6 h8'))

theorem zl_div {i : Nat} (h : i < 72) : nI i / 12 = nI (i / 12) := pk_div (a := i) (d := 12) (by omega) (by omega) (by omega)
theorem zl_rem {i : Nat} (h : i < 72) : nI i - nI (i / 12) * 12 = nI (i % 12) := by
  rw [← zl_div h]
  exact pk_rem (a := i) (d := 12) (by omega) (by omega) (by omega)
/-- a place is filled just if it is one of the first q -/
theorem zl_fl {q k : Nat} {v : Int32} (D : zl_D q k v a1 a2 a3 a4) {i : Nat} (hi : i < 72) : a4 (i / 12) ≤ nI (i % 12) ↔ q ≤ i := by
  obtain ⟨hq, h0, hj, _, _⟩ := D
  by_cases e : i < 12
  · rw [show i / 12 = 0 by omega, show i % 12 = i by omega, h0]
    exact nI_leI (by omega) (by omega)
  · rw [hj (i / 12) (by omega) (by omega)]
    exact ⟨fun _ => by omega, fun _ => nI_le (by omega) (by omega)⟩

/-- one look at a place in counts and recover -/
theorem zl_at {q k : Nat} {v : Int32} (D : zl_D q k v a1 a2 a3 a4) {i : Nat} (hi : i < 72) {A B : Prop} (f : q ≤ i → A) (g : i < q → B) :
    ((a4 (nI i / 12).toNatClampNeg) ≤ (nI i - nI i / 12 * 12) → A) ∧ (¬ (a4 (nI i / 12).toNatClampNeg) ≤ (nI i - nI i / 12 * 12) → B) := by
  rw [zl_div hi, zl_rem hi, nI_clamp (show i / 12 < 2 ^ 31 by omega), zl_fl D hi]
  exact ⟨f, fun z => g (by omega)⟩
theorem zl_vin {i : Nat} (hi : i < 72) : vp_in (nI i / 12) 6 := pk_in (i / 12) 6 (by omega) (zl_div hi)

theorem zl_cnt {post : Int32 → Prop} {q k : Nat} {v : Int32} (D : zl_D q k v a1 a2 a3 a4) (hq : 0 < q) (h2 : q = 2 → post 1) (h1 : q ≠ 2 → post 0) :
    wpX_counts post (f1, f2, f3, f4, f5, a1, a2, a3, a4, a5, a6, a7, a8) (a3 0) := by
  have D' := D
  obtain ⟨hq2, h40, h4j, hA, hB⟩ := D
  obtain ⟨hk, hb1, _⟩ := hA hq
  have ne : ¬ a1 0 = 16 := by
    rw [hb1]
    exact fun z => absurd ((nI_eq (b := 16) (by omega) (by omega)).mp z) (by omega)
  by_cases e : q = 2
  · obtain ⟨hc, hd⟩ := hB (by omega)
    refine ⟨2, pk_le 72 0 (fun z => absurd z (by omega)) (fun _ => ⟨by decide, by decide, zl_vin (i := 0) (by omega), zl_at D' (i := 0) (by omega) (fun z => absurd z (by omega)) (fun _ => ⟨pk_in 0 72 (by omega), br_f ne (nm_r (nI_1 0) ?_)⟩)⟩)⟩
    exact pk_le 72 1 (fun z => absurd z (by omega)) (fun _ => ⟨by decide, by decide, zl_vin (i := 1) (by omega), zl_at D' (i := 1) (by omega) (fun z => absurd z (by omega)) (fun _ => ⟨pk_in 1 72 (by omega), br_t hc ⟨pk_in 1 72 (by omega), br_t hd (h2 e)⟩⟩)⟩)
  · refine pk_loop (σ := Unit) (fun n i _ => wX_counts_2 post (a3 0) f1 f2 f3 f4 f5 a1 a2 a3 a4 a5 a6 a7 a8 n (nI i)) (fun _ _ => True) 72 0 () (by omega) trivial ?_ ?_
    · exact fun n _ _ => pk_le 72 72 (fun _ => h1 e) (fun z => absurd z (by omega))
    · intro n i _ hi _ hw
      refine pk_le 72 i (fun z => absurd z (by omega)) (fun _ => ⟨by decide, by decide, zl_vin hi, zl_at D' hi (fun _ => nm_r (nI_1 i) (hw () trivial)) (fun z => ⟨pk_in i 72 hi, ?_⟩)⟩)
      have e0 : i = 0 := by omega
      subst e0
      exact br_f ne (nm_r (nI_1 0) (hw () trivial))

/-- the last loop of recover: some zone, or none -/
theorem zl_r105 {post : St2 → Prop} (H : ∀ c : Int32, post (f1, f2, c, f4, f5, a1, a2, a3, a4, a5, a6, a7, a8)) :
    ∃ n, wX_recover_105 post f1 f2 f4 f5 a1 a2 a3 a4 a5 a6 a7 a8 n 0 (-1) := by
  refine pk_loop (fun n i s => wX_recover_105 post f1 f2 f4 f5 a1 a2 a3 a4 a5 a6 a7 a8 n (nI i) s) (fun _ s => s = -1 ∨ vp_in s 6) 6 0 (-1) (by omega) (Or.inl rfl) ?_ ?_
  · exact fun n s _ => pk_le 6 6 (fun _ => H s) (fun z => absurd z (by omega))
  · intro n i s hi h hw
    have hv : vp_in (nI i) 6 := pk_in i 6 hi
    exact pk_le 6 i (fun z => absurd z (by omega)) (fun _ => ⟨hv, br_c (fun _ => nm_r (nI_1 i) (hw s h)) (fun _ => br_c (fun _ => nm_r (nI_1 i) (hw _ (Or.inr hv))) (fun z => ⟨hv, h.resolve_left z, br_c (fun _ => nm_r (nI_1 i) (hw s h)) (fun _ => nm_r (nI_1 i) (hw _ (Or.inr hv)))⟩))⟩)

/-- mount behind a crash -/
theorem zl_mount {post : Int32 → St2 → Prop} {q k : Nat} {v : Int32} (D : zl_D q k v a1 a2 a3 a4) (h6 : ∀ j, j < 16 → a6 j = -1)
    (H : ∀ (c : Int32) (b6 : Nat → Int32), (∀ j, j < 16 → b6 j = if q = 2 ∧ j = k then nI 0 else -1) → post 0 (1, f2, c, f4, f5, a1, a2, a3, a4, a5, b6, a7, a8)) :
    wpX_mount post (0, f2, f3, f4, f5, a1, a2, a3, a4, a5, a6, a7, a8) := by
  refine br_t rfl ?_
  unfold wpX_recover
  dsimp only
  refine pk_loop (fun n i s => wX_recover_2 _ 0 f2 f3 f4 f5 n (nI i) a1 a2 a3 a4 a5 s a7 a8) (fun i s => (i = 0 ∧ ∀ j, j < 16 → s j = -1) ∨ (0 < i ∧ ∀ j, j < 16 → s j = if q = 2 ∧ j = k then nI 0 else -1)) 72 0 a6 (by omega) (Or.inl ⟨rfl, h6⟩) ?_ ?_
  · intro n s h
    rcases h with ⟨z, _⟩ | ⟨_, hs⟩
    · exact absurd z (by omega)
    · exact pk_le 72 72 (fun _ => zl_r105 (fun c => H c s hs)) (fun z => absurd z (by omega))
  · intro n i s hi h hw
    have D' := D
    obtain ⟨hq2, h40, h4j, hA, hB⟩ := D
    refine pk_le 72 i (fun z => absurd z (by omega)) (fun _ => ⟨by decide, by decide, zl_vin hi, zl_at D' hi (fun z => nm_r (nI_1 i) (hw s (Or.inr ⟨by omega, ?_⟩))) (fun z => ⟨pk_in i 72 hi, ?_⟩)⟩)
    · rcases h with ⟨e, hs⟩ | ⟨_, hs⟩
      · intro j hj
        rw [if_neg (by omega)]
        exact hs j hj
      · exact hs
    · rw [nI_clamp (show i < 2 ^ 31 by omega)]
      rcases h with ⟨e, hs⟩ | ⟨e, hs⟩
      · subst e
        obtain ⟨hk, hb1, _⟩ := hA z
        have ne : ¬ a1 0 = 16 := by
          rw [hb1]
          exact fun z => absurd ((nI_eq (b := 16) (by omega) (by omega)).mp z) (by omega)
        refine br_f ne ⟨pk_in 0 72 (by omega), zl_cnt D' z (fun e => br_f (by decide) ⟨pk_in 0 72 (by omega), nm_r hb1 ⟨pk_in k 16 hk, ?_⟩⟩) (fun e => br_t rfl (nm_r (nI_1 0) (hw s (Or.inr ⟨by omega, ?_⟩))))⟩
        · rw [nI_clamp (show k < 2 ^ 31 by omega)]
          refine br_t (hs k hk) ⟨pk_in k 16 hk, nm_e (nm_r (nI_1 0) (hw _ (Or.inr ⟨by omega, ?_⟩)))⟩
          intro j hj
          by_cases ej : j = k
          · rw [ej, pk_us, if_pos ⟨e, rfl⟩]
          · rw [pk_un ej, if_neg (fun t => ej t.2)]
            exact hs j hj
        · intro j hj
          rw [if_neg (fun t => e t.1)]
          exact hs j hj
      · have e1 : i = 1 := by omega
        subst e1
        exact br_t (hB (by omega)).1 (nm_r (nI_1 1) (hw s (Or.inr ⟨by omega, hs⟩)))

end
end
section
/-! write, read, and the law -/
/-- what a look at block j answers -/
def zl_cur (a2 a6 a7 a8 : Nat → Int32) (j : Nat) (g : Int32) : Prop :=
  (¬ a8 j = 0 ∧ a7 j = g) ∨ (a8 j = 0 ∧ ((a6 j = -1 ∧ g = 0) ∨ (∃ t : Nat, t < 72 ∧ a6 j = nI t ∧ a2 t = g)))

section
variable {f1 f2 f3 f4 f5 : Int32} {a1 a2 a3 a4 a5 a6 a7 a8 : Nat → Int32}

theorem zl_mnI {t : Nat} (h : t < 72) : ¬ nI t = -1 := by
  intro z
  have h1 : ¬ nI t < 0 := nI_pos (by omega)
  rw [z] at h1
  exact h1 (by decide)

theorem zl_read {post : Int32 → Prop} {x : Int32} {g : Nat → Int32} (hr : ∀ j, j < 16 → zl_cur a2 a6 a7 a8 j (g j)) (hb : zl_bad x → post 0) (hg : ∀ j, j < 16 → x = nI j → post (g j)) :
    wpX_read post (1, f2, f3, f4, f5, a1, a2, a3, a4, a5, a6, a7, a8) x := by
  refine br_f (by decide) ?_
  rcases zl_blk x with h | ⟨k, hk, rfl⟩
  · exact zl_isB h (br_t rfl (hb h))
  · refine zl_isG hk (br_f (by decide) ?_)
    have hp := hg k hk rfl
    unfold wpX_current
    dsimp only
    refine ⟨pk_in k 16 hk, ?_⟩
    rw [nI_clamp (show k < 2 ^ 31 by omega)]
    rcases hr k hk with ⟨h8, h7⟩ | ⟨h8, h⟩
    · exact br_f h8 ⟨pk_in k 16 hk, by rw [h7]; exact hp⟩
    · refine br_t h8 ?_
      unfold wpX_stored
      dsimp only
      refine ⟨pk_in k 16 hk, ?_⟩
      rw [nI_clamp (show k < 2 ^ 31 by omega)]
      rcases h with ⟨h6, h0⟩ | ⟨t, ht, h6, h2⟩
      · exact br_t h6 (by rw [← h0]; exact hp)
      · rw [h6, nI_clamp (show t < 2 ^ 31 by omega), h2]
        exact br_f (zl_mnI ht) ⟨pk_in k 16 hk, pk_in t 72 ht, hp⟩

theorem zl_writeB {post : Int32 → St2 → Prop} {x v : Int32} (h : zl_bad x) (H : post (-2) (1, f2, f3, f4, f5, a1, a2, a3, a4, a5, a6, a7, a8)) :
    wpX_write post (1, f2, f3, f4, f5, a1, a2, a3, a4, a5, a6, a7, a8) x v :=
  br_f (by decide) (zl_isB h (br_t rfl H))
theorem zl_writeG {post : Int32 → St2 → Prop} {k : Nat} {v : Int32} (hk : k < 16) (h8 : ∀ j, j < 16 → a8 j = 0) (H : post 0 (1, f2, f3, f4, f5, a1, a2, a3, a4, a5, a6, upd a7 k v, upd a8 k 1)) :
    wpX_write post (1, f2, f3, f4, f5, a1, a2, a3, a4, a5, a6, a7, a8) (nI k) v := by
  refine br_f (by decide) (zl_isG hk (br_f (by decide) ⟨pk_in k 16 hk, ?_⟩))
  rw [nI_clamp (show k < 2 ^ 31 by omega)]
  refine br_t (h8 k hk) (zl_dc0 h8 (br_f (by decide) ?_))
  unfold wX_write_52
  rw [nI_clamp (show k < 2 ^ 31 by omega)]
  exact ⟨pk_in k 16 hk, nm_e ⟨pk_in k 16 hk, nm_e H⟩⟩

variable {post : Int32 → St0 → Prop} {mc ms kc ks : Nat} {x0 x1 x2 x3 x5 x6 : Int32}

theorem zl_171 (hp : post 1 ()) (hr : ∀ j, j < 16 → zl_cur a2 a6 a7 a8 j 0) :
    wL_lawOf_171 post mc ms x0 x1 x3 kc ks 1 f2 f3 f4 f5 a1 a2 a3 a4 a5 a6 a7 a8 := by
  unfold wL_lawOf_171 wL_lawOf_172
  exact zl_read (g := fun _ => 0) hr (fun _ => br_t rfl (br_t rfl hp)) (fun j _ _ => br_t rfl (br_t rfl hp))

theorem zl_167 {k : Nat} (hp : post 1 ()) (hk : k < 16) (hr : ∀ j, j < 16 → zl_cur a2 a6 a7 a8 j (if j = k then x1 else 0)) :
    wL_lawOf_167 post mc ms (nI k) x1 x3 kc ks 1 f2 f3 f4 f5 a1 a2 a3 a4 a5 a6 a7 a8 := by
  unfold wL_lawOf_167 wL_lawOf_172
  refine zl_read (g := fun j => if j = k then x1 else 0) hr (fun h => br_f (by decide) (br_f ?_ (br_t rfl hp))) (fun j hj e => br_f (by decide) ?_)
  · intro e
    rcases h with h | h
    · rw [e] at h
      exact nI_pos (by omega) h
    · rw [e] at h
      exact nI_ge (b := 16) hk (by omega) h
  · rw [e]
    refine pk_eq j k (fun z => br_t ?_ hp) (fun z => br_t ?_ hp)
    · exact if_pos z
    · exact if_neg z

/-- the picture of the first write: block k (16: none) is unsynced with value x1; x5 says whether it is a block -/
def zl_W (k : Nat) (x0 x1 x5 : Int32) (a4 a5 a6 a7 a8 : Nat → Int32) : Prop :=
  ((k < 16 ∧ x0 = nI k ∧ x5 = 1) ∨ (k = 16 ∧ x5 = 0)) ∧ (∀ j, j < 16 → (a8 j = 0 ↔ j ≠ k)) ∧ (k < 16 → a7 k = x1) ∧ (∀ j, j < 6 → a4 j = nI 0) ∧ (∀ j, j < 6 → a5 j = -1) ∧ (∀ j, j < 16 → a6 j = -1)

/-- no point is named: nothing falls -/
theorem zl_un {k : Nat} (hp : post 1 ()) (h : zl_W k x0 x1 x5 a4 a5 a6 a7 a8) :
    wL_lawOf_82 post mc ms x0 x1 x2 x3 x5 0 (-2) (-2) kc ks 1 f2 f3 f4 f5 a1 a2 a3 a4 a5 a6 a7 a8 := by
  obtain ⟨hx, h8, h7, h4, h5, h6⟩ := h
  unfold wL_lawOf_82
  refine br_t rfl (br_f (by decide) (br_t rfl ?_))
  unfold wL_lawOf_102
  refine br_t rfl ?_
  unfold wpX_unsynced
  dsimp only
  rcases hx with ⟨hk, rfl, rfl⟩ | ⟨rfl, rfl⟩
  · refine zl_dc1 hk h8 (br_f (by decide) (br_t rfl (br_t rfl (br_f (by decide) (br_t rfl ?_)))))
    unfold wL_lawOf_147
    refine br_t rfl (br_f (by decide) (br_t rfl (zl_167 hp hk (fun j hj => ?_))))
    by_cases e : j = k
    · rw [if_pos e, e]
      exact Or.inl ⟨fun z => (h8 k hk).mp z rfl, h7 hk⟩
    · rw [if_neg e]
      exact Or.inr ⟨(h8 j hj).mpr e, Or.inl ⟨h6 j hj, rfl⟩⟩
  · have h80 : ∀ j, j < 16 → a8 j = 0 := fun j hj => (h8 j hj).mpr (by omega)
    refine zl_dc0 h80 (br_t rfl ?_)
    unfold wL_lawOf_126 wL_lawOf_127
    refine br_t rfl (br_f (by decide) (br_t rfl ?_))
    unfold wL_lawOf_147
    exact br_t rfl (br_t rfl (zl_171 hp (fun j hj => Or.inr ⟨h80 j hj, Or.inl ⟨h6 j hj, rfl⟩⟩)))

/-- behind a crash in point p -/
theorem zl_na {k p q : Nat} (hp : post 1 ()) (hp3 : p ≤ 3) (hx : (k < 16 ∧ x0 = nI k ∧ x5 = 1) ∨ (k = 16 ∧ x5 = 0))
    (D : zl_D q k x1 a1 a2 a3 a4) (hq : q = 2 ↔ (p = 3 ∧ k < 16)) (h6 : ∀ j, j < 16 → a6 j = -1) (h8 : ∀ j, j < 16 → a8 j = 0) :
    wL_lawOf_82 post mc ms x0 x1 (nI p) x3 x5 1 0 0 kc ks 0 f2 f3 f4 f5 a1 a2 a3 a4 a5 a6 a7 a8 := by
  unfold wL_lawOf_82
  refine br_t rfl (br_t rfl (br_f (by decide) ?_))
  unfold wL_lawOf_102
  refine br_t rfl ?_
  unfold wpX_unsynced
  dsimp only
  have h127 : wL_lawOf_126 post mc ms x0 x1 (nI p) x3 x5 1 (nI 0) kc ks 0 f2 f3 f4 f5 a1 a2 a3 a4 a5 a6 a7 a8 := by
    unfold wL_lawOf_126 wL_lawOf_127
    refine br_t rfl (zl_mount D h6 (fun c b6 hb => br_f (by decide) ?_))
    unfold wL_lawOf_147
    refine br_t rfl ?_
    rcases hx with ⟨hk, rfl, rfl⟩ | ⟨rfl, rfl⟩
    · refine br_f (by decide) (br_f (by decide) (pk_eq p 3 (fun e => zl_167 hp hk (fun j hj => ?_)) (fun e => zl_171 hp (fun j hj => ?_))))
      · have e2 : q = 2 := hq.mpr ⟨e, hk⟩
        have hb' := hb j hj
        obtain ⟨_, _, _, hA, _⟩ := D
        by_cases ej : j = k
        · rw [if_pos ej]
          rw [if_pos ⟨e2, ej⟩] at hb'
          exact Or.inr ⟨h8 j hj, Or.inr ⟨0, by omega, hb', (hA (by omega)).2.2⟩⟩
        · rw [if_neg ej]
          rw [if_neg (fun t => ej t.2)] at hb'
          exact Or.inr ⟨h8 j hj, Or.inl ⟨hb', rfl⟩⟩
      · have hb' := hb j hj
        rw [if_neg (fun t => e (hq.mp t.1).1)] at hb'
        exact Or.inr ⟨h8 j hj, Or.inl ⟨hb', rfl⟩⟩
    · refine br_t rfl (zl_171 hp (fun j hj => ?_))
      have hb' := hb j hj
      rw [if_neg (by omega)] at hb'
      exact Or.inr ⟨h8 j hj, Or.inl ⟨hb', rfl⟩⟩
  exact zl_dc0 h8 (br_c (fun _ => h127) (fun _ => br_f (by decide) h127))

/-- behind the write -/
theorem zl_44 {k : Nat} {r : Int32} (hp : post 1 ()) (h : zl_W k x0 x1 x5 a4 a5 a6 a7 a8) :
    wL_lawOf_44 post mc ms x0 x1 x2 x3 x5 r r kc ks 1 0 (-1) 0 0 a1 a2 a3 a4 a5 a6 a7 a8 := by
  have hU : x2 < 0 ∨ 3 < x2 → wL_lawOf_62 post mc ms x0 x1 x2 x3 x5 kc ks 1 0 (-1) 0 0 a1 a2 a3 a4 a5 a6 a7 a8 := by
    intro hb
    unfold wL_lawOf_62 wL_lawOf_63
    refine br_f (by decide) (br_c (fun _ => br_t rfl (zl_un hp h)) (fun z => br_f ?_ (br_t rfl (zl_un hp h))))
    have hb' := hb.resolve_left z
    intro t
    exact absurd hb' (Int32.not_lt.mpr t)
  unfold wL_lawOf_44
  refine br_t rfl (br_c (fun z => hU (Or.inl z)) (fun z => br_c (fun z3 => hU (Or.inr z3)) (fun z3 => ?_)))
  obtain ⟨p, hp3, rfl⟩ := nI_of2 (x := x2) (M := 3) (n := 3) rfl z (Int32.not_lt.mp z3)
  obtain ⟨hx, h8, h7, h4, h5, h6⟩ := h
  unfold wL_lawOf_63
  exact zl_crash hp3 h5 h8 h7 h4 (fun q g o b1 b2 b3 b4 b5 b6 b8 D hq h6' h8' => br_f (by decide) (zl_na hp hp3 hx D hq h6' h8'))

theorem zl_law (hp : post 1 ()) : wpL_lawOf post 9 289 () x0 x1 x2 x3 := by
  refine ⟨by omega, by omega, 8, 276, by omega, by omega, zl_init (fun b5 b6 h5 h6 => ?_)⟩
  rcases zl_blk x0 with h | ⟨k, hk, rfl⟩
  · have hB : wL_lawOf_23 post 9 289 x0 x1 x2 x3 (1 + 8) (13 + 276) 1 0 (-1) 0 0 (fun _ => 0) (fun _ => 0) (fun _ => 0) (fun _ => 0) b5 b6 (fun _ => 0) (fun _ => 0) := by
      unfold wL_lawOf_23 wL_lawOf_24
      refine zl_writeB h (br_t rfl (zl_44 (k := 16) hp ⟨Or.inr ⟨rfl, rfl⟩, fun j hj => ⟨fun _ => by omega, fun _ => rfl⟩, fun z => absurd z (by omega), fun _ _ => rfl, h5, h6⟩))
    refine br_c (fun _ => hB) (fun z => br_t ?_ hB)
    have h16 := h.resolve_left z
    rw [Int32.le_iff_toInt_le] at h16
    rw [Int32.lt_iff_toInt_lt]
    have e1 : (15 : Int32).toInt = 15 := by decide
    have e2 : (16 : Int32).toInt = 16 := by decide
    omega
  · refine br_f (nI_pos (by omega)) (br_f (nI_nlt (b := k) (a := 15) (by omega) (by omega)) ?_)
    unfold wL_lawOf_24
    refine zl_writeG hk (fun _ _ => rfl) (br_f (by decide) (zl_44 (k := k) hp ⟨Or.inl ⟨hk, rfl, rfl⟩, fun j hj => ?_, fun _ => pk_us, fun _ _ => rfl, h5, h6⟩))
    by_cases e : j = k
    · rw [e, pk_us]
      exact ⟨fun z => absurd z (by decide), fun z => absurd rfl z⟩
    · rw [pk_un e]
      exact ⟨fun _ => e, fun _ => rfl⟩

end

theorem zl_cell {post : Int32 → Prop} {L : Nat} {xs : Nat → Int32} {u : St0} (hL : L ≤ 4) (i : Nat) (hi : i < 4) (H : ∀ r, post r) {x : Int32} (hx : x = nI i) : wpL_cellAt post L xs u x := by
  subst hx
  exact pk_le L i (fun _ => H _) (fun z => ⟨pk_in i L z, H _⟩)

theorem i_vc (xs : Nat → Int32) (L : Nat) (hL : L ≤ 4) : wpL_law (fun r => r = 1) L xs := by
  unfold wpL_law
  exact zl_cell hL 0 (by omega) (fun _ => zl_cell hL 1 (by omega) (fun _ => zl_cell hL 2 (by omega) (fun _ => zl_cell hL 3 (by omega) (fun _ => ⟨9, 289, by omega, by omega, zl_law rfl⟩) rfl) rfl) rfl) rfl
end
