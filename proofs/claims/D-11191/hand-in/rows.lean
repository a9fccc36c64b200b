section
/-- bit u of the set s -/
def sl_tb (s u : Nat) : Bool := s / 2 ^ u % 2 == 1
/-- the set s less u -/
def sl_cl (s u : Nat) : Nat := if sl_tb s u then s - 2 ^ u else s
theorem sl_bit : ∀ s, s < 16 → ∀ v, v < 4 → ((nI s >>> (nI v &&& 31)) &&& 1) = (if sl_tb s v then 1 else 0) := by decide +kernel
theorem sl_clr : ∀ s, s < 16 → ∀ u, u < 4 → (nI s &&& (((1 : Int32) <<< (nI u &&& 31)) ^^^ (-1))) = nI (sl_cl s u) := by decide +kernel
theorem sl_pow : ∀ u, u < 4 → (1 : Int32) <<< (nI u &&& 31) = nI (2 ^ u) := by decide +kernel
theorem sl_clt : ∀ s, s < 16 → ∀ u, u < 4 → sl_tb s u = true → sl_cl s u < s := by decide +kernel
theorem sl_cln : ∀ s, s < 16 → ∀ u, u < 4 → sl_tb s u = false → sl_cl s u = s := by decide +kernel
theorem sl_p16 : ∀ u, u < 4 → 2 ^ u < 16 := by decide +kernel
theorem sl_pb : ∀ a, a < 4 → ∀ b, b < 4 → a ≠ b → sl_tb (2 ^ a) b = false := by decide +kernel
theorem sl_15 : ∀ a, a < 4 → sl_tb 15 a = true := by decide +kernel
theorem sl_an0 : ∀ s, s < 16 → ∀ F, F < 16 → ((nI s &&& nI F) = 0 ↔ s &&& F = 0) := by decide +kernel
theorem sl_anR : ∀ s, s < 16 → ∀ F, F < 16 → ((nI s &&& nI F) = nI F ↔ s &&& F = F) := by decide +kernel
theorem sl_ix (v s : Nat) : nI v * 16 + nI s = nI (v * 16 + s) := by
  rw [show (16 : Int32) = nI 16 from rfl, pk_mul, nI_add]
/-- how many of the first i variables lie in the set s -/
def sl_sz (s : Nat) : Nat → Nat
  | 0 => 0
  | i + 1 => sl_sz s i + s / 2 ^ i % 2
theorem sl_szS : ∀ s, s < 16 → ∀ i, i < 4 → nI (sl_sz s i) + ((nI s >>> (nI i &&& 31)) &&& 1) = nI (sl_sz s (i + 1)) := by decide +kernel
theorem sl_sz3 : ∀ s, s < 16 → ∀ v, v < 4 → sl_tb s v = false → sl_sz s 4 ≤ 3 := by decide +kernel
theorem sl_size {post : Int32 → Prop} {s : Nat} (hs : s < 16) (H : post (nI (sl_sz s 4))) : wpX_size post () (nI s) :=
  pk_loop (fun n i x => wX_size_4 post (nI s) n x (nI i)) (fun i x => x = nI (sl_sz s i)) 4 0 0 (by omega) rfl
    (fun n x h => pk_le 4 4 (fun _ => by subst h; exact H) (fun z => absurd z (by omega)))
    (fun n i x hi h hw => pk_le 4 i (fun z => absurd z (by omega)) (fun _ => nm_r (by subst h; exact sl_szS s hs i hi) (nm_r (nI_1 i) (hw _ rfl))))
theorem sl_bad {post : Int32 → Prop} {v : Nat} (hv : v < 4) (H : post 0) : wpX_bad post () (nI v) :=
  br_f (nI_pos (by omega)) (pk_lt v 4 (fun _ => H) (fun z => absurd z (by omega)))
theorem sl_badP {post : Int32 → Prop} {v s : Nat} (hv : v < 4) (hs : s < 16) (H1 : sl_tb s v = true → post 1) (H0 : sl_tb s v = false → post 0) : wpX_badParents post () (nI v) (nI s) := by
  refine br_f (nI_pos (by omega)) (pk_le 16 s (fun z => absurd z (by omega)) (fun _ => ?_))
  rw [sl_bit s hs v hv]
  cases hb : sl_tb s v with
  | true => exact br_t rfl (H1 hb)
  | false => exact br_f (by decide) (H0 hb)
/-- the set s may be v's parents: F forbidden, R required -/
def sl_al (v s : Nat) (F R : Int32) : Prop := sl_tb s v = false ∧ (nI s &&& F) = 0 ∧ (nI s &&& R) = R
theorem sl_isAllowed {post : Int32 → Prop} {a1 a2 a3 a4 a5 a6 a7 a8 a9 : Nat → Int32} {v s : Nat} (hv : v < 4) (hs : s < 16) (h4 : a4 v < 0)
    (H1 : sl_al v s (a2 v ||| a6 v) (a3 v ||| a5 v) → post 1) (H0 : ¬ sl_al v s (a2 v ||| a6 v) (a3 v ||| a5 v) → post 0) :
    wpX_isAllowed post (3, a1, a2, a3, a4, a5, a6, a7, a8, a9) (nI v) (nI s) := by
  unfold wpX_isAllowed
  dsimp only
  refine sl_badP hv hs (fun hb => br_f (by decide) (H0 (fun t => by rw [t.1] at hb; cases hb))) (fun hb => br_t rfl ⟨pk_in v 4 hv, ?_⟩)
  rw [nI_clamp (show v < 2 ^ 31 by omega)]
  refine br_t h4 ?_
  unfold wX_isAllowed_31
  rw [nI_clamp (show v < 2 ^ 31 by omega)]
  refine sl_size hs ⟨pk_in v 4 hv, pk_in v 4 hv, nm_e (br_f (nI_nlt (a := 3) (sl_sz3 s hs v hv hb) (by decide)) ⟨pk_in v 4 hv, pk_in v 4 hv, ?_⟩)⟩
  exact br_c (fun g1 => br_c (fun g2 => H1 ⟨hb, g1, g2⟩) (fun g2 => H0 (fun t => g2 t.2.2))) (fun g1 => H0 (fun t => g1 t.2.1))
end
section
/-- the set s less one of its members has T's value at s -/
def sl_ex (s : Nat) (T : Nat → Int32) : Prop := ∃ u, u < 4 ∧ sl_tb s u = true ∧ T (sl_cl s u) = T s
theorem sl_fw40 {post : St2 → Prop} {J2 : Int32 → (Nat → Int32) → (Nat → Int32) → (Nat → Int32) → (Nat → Int32) → (Nat → Int32) → (Nat → Int32) → (Nat → Int32) → (Nat → Int32) → (Nat → Int32) → Prop}
    {v s : Nat} {f0 : Int32} {a1 a2 a3 a4 a5 a6 a7 a8 a9 T : Nat → Int32} {x : Int32} (hv : v < 4) (hs : s < 16)
    (h7 : ∀ r, r < s → a7 (v * 16 + r) = T r) (hx : x ≤ T s) (hu : ∀ u, u < 4 → sl_tb s u = true → T (sl_cl s u) ≤ T s) (he : x = T s ∨ sl_ex s T)
    (H : J2 (nI (s + 1)) a1 a2 a3 a4 a5 a6 (upd a7 (v * 16 + s) (T s)) a8 a9) :
    ∃ n, wX_fillWithin_40 post J2 (nI v) (nI s) f0 a1 a2 a3 a4 a5 a6 a7 a8 a9 n x 0 := by
  refine pk_loop (fun n i x => wX_fillWithin_40 post J2 (nI v) (nI s) f0 a1 a2 a3 a4 a5 a6 a7 a8 a9 n x (nI i))
    (fun i x => x ≤ T s ∧ (x = T s ∨ ∃ u, i ≤ u ∧ u < 4 ∧ sl_tb s u = true ∧ T (sl_cl s u) = T s)) 4 0 x (by omega) ?_ ?_ ?_
  · refine ⟨hx, ?_⟩
    rcases he with he | ⟨u, h1, h2, h3⟩
    · exact Or.inl he
    · exact Or.inr ⟨u, by omega, h1, h2, h3⟩
  · intro n x h
    have e : x = T s := by
      rcases h.2 with h | ⟨u, h1, h2, _⟩
      · exact h
      · omega
    subst e
    refine pk_le 4 4 (fun _ => ⟨pk_in (v * 16 + s) 64 (by omega) (sl_ix v s), nm_r (e' := upd a7 (v * 16 + s) (T s)) ?_ (nm_r (nI_1 s) H)⟩) (fun z => absurd z (by omega))
    rw [sl_ix, nI_clamp (show v * 16 + s < 2 ^ 31 by omega)]
  · intro n i x hi h hw
    obtain ⟨h1, h2⟩ := h
    refine pk_le 4 i (fun z => absurd z (by omega)) (fun _ => nm_r (sl_clr s hs i hi) ?_)
    cases hb : sl_tb s i with
    | false =>
      rw [sl_cln s hs i hi hb]
      refine br_t rfl (nm_r (nI_1 i) (hw x ⟨h1, ?_⟩))
      rcases h2 with h2 | ⟨u, p1, p2, p3, p4⟩
      · exact Or.inl h2
      · have ne : u ≠ i := by
          intro e
          rw [e, hb] at p3
          cases p3
        exact Or.inr ⟨u, by omega, p2, p3, p4⟩
    | true =>
      have hl := sl_clt s hs i hi hb
      refine br_f (fun z => ?_) ⟨pk_in (v * 16 + sl_cl s i) 64 (by omega) (sl_ix _ _), ?_⟩
      · have z' := (nI_eq (show sl_cl s i < 2 ^ 31 by omega) (show s < 2 ^ 31 by omega)).mp z
        omega
      rw [sl_ix, nI_clamp (show v * 16 + sl_cl s i < 2 ^ 31 by omega), h7 _ hl]
      refine br_c (fun g => nm_r (nI_1 i) (hw x ⟨h1, ?_⟩)) (fun g => ⟨pk_in (v * 16 + sl_cl s i) 64 (by omega), nm_e (nm_r (nI_1 i) (hw _ ⟨hu i hi hb, ?_⟩))⟩)
      · rcases h2 with h2 | ⟨u, p1, p2, p3, p4⟩
        · exact Or.inl h2
        · by_cases e : u = i
          · rw [e] at p4
            rw [p4] at g
            exact Or.inl (Int32.le_antisymm h1 g)
          · exact Or.inr ⟨u, by omega, p2, p3, p4⟩
      · rcases h2 with h2 | ⟨u, p1, p2, p3, p4⟩
        · rw [h2] at g
          exact absurd (hu i hi hb) g
        · by_cases e : u = i
          · rw [e] at p4
            exact Or.inl p4
          · exact Or.inr ⟨u, by omega, p2, p3, p4⟩
/-- T is the table of v's best parents within a set: its equations -/
def sl_okT (v : Nat) (F R : Int32) (a1 T : Nat → Int32) : Prop := ∀ s, s < 16 →
  (∀ u, u < 4 → sl_tb s u = true → T (sl_cl s u) ≤ T s) ∧
  (sl_al v s F R → a1 (v * 16 + s) ≤ T s ∧ (a1 (v * 16 + s) = T s ∨ sl_ex s T)) ∧
  (¬ sl_al v s F R → -100000 ≤ T s ∧ (-100000 = T s ∨ sl_ex s T))
theorem sl_fw {post : St2 → Prop} {v : Nat} {a1 a2 a3 a4 a5 a6 a7 a8 a9 T : Nat → Int32} (hv : v < 4) (h4 : a4 v < 0) (hT : sl_okT v (a2 v ||| a6 v) (a3 v ||| a5 v) a1 T)
    (H : ∀ b7 : Nat → Int32, (∀ s, s < 16 → b7 (v * 16 + s) = T s) → (∀ j, (j < v * 16 ∨ v * 16 + 16 ≤ j) → b7 j = a7 j) → post (3, a1, a2, a3, a4, a5, a6, b7, a8, a9)) :
    wpX_fillWithin post (3, a1, a2, a3, a4, a5, a6, a7, a8, a9) (nI v) := by
  refine pk_loop (fun n i b7 => wX_fillWithin_2 post (nI v) 3 n (nI i) a1 a2 a3 a4 a5 a6 b7 a8 a9)
    (fun i b7 => (∀ s, s < i → b7 (v * 16 + s) = T s) ∧ (∀ j, (j < v * 16 ∨ v * 16 + 16 ≤ j) → b7 j = a7 j)) 16 0 a7 (by omega) ⟨fun s hs => absurd hs (by omega), fun j _ => rfl⟩
    (fun n b7 h => pk_le 16 16 (fun _ => H b7 h.1 h.2) (fun z => absurd z (by omega))) ?_
  intro n i b7 hi h hw
  obtain ⟨h1, h2⟩ := h
  obtain ⟨t1, t2, t3⟩ := hT i hi
  have K : wX_fillWithin_2 post (nI v) 3 n (nI (i + 1)) a1 a2 a3 a4 a5 a6 (upd b7 (v * 16 + i) (T i)) a8 a9 := by
    refine hw _ ⟨fun s hs => ?_, fun j hj => ?_⟩
    · by_cases e : s = i
      · rw [e, pk_us]
      · rw [pk_un (by omega)]
        exact h1 s (by omega)
    · rw [pk_un (by omega)]
      exact h2 j hj
  refine pk_le 16 i (fun z => absurd z (by omega)) (fun _ => sl_isAllowed hv hi h4 (fun g => br_f (by decide) ⟨pk_in (v * 16 + i) 64 (by omega) (sl_ix v i), nm_r (e' := a1 (v * 16 + i)) ?_ (sl_fw40 hv hi h1 (t2 g).1 t1 (t2 g).2 K)⟩) (fun g => br_t rfl (sl_fw40 hv hi h1 (t3 g).1 t1 (t3 g).2 K)))
  rw [sl_ix, nI_clamp (show v * 16 + i < 2 ^ 31 by omega)]
end
section
theorem sl_t77 {post : St2 → Prop} {s c : Nat} {x5 f0 : Int32} {a1 a2 a3 a4 a5 a6 a7 a8 a9 : Nat → Int32} (hs : s < 16) (hc : c < 16)
    (H : ∀ b9, post (f0, a1, a2, a3, a4, a5, a6, a7, a8, b9)) : wX_tryLast_77 post (nI s) (nI c) x5 f0 a1 a2 a3 a4 a5 a6 a7 a8 a9 :=
  ⟨pk_in s 16 hs, br_c (fun _ => ⟨pk_in s 16 hs, pk_in c 16 hc, pk_in s 16 hs, nm_e (H _)⟩) (fun _ => H _)⟩
theorem sl_try {post : St2 → Prop} {s v : Nat} {f0 : Int32} {a1 a2 a3 a4 a5 a6 a7 a8 a9 : Nat → Int32} (hs : s < 16) (hv : v < 4) (hb : sl_tb s v = true)
    (Hn : (a7 (v * 16 + sl_cl s v) = -100000 ∨ a8 (sl_cl s v) = -100000) → post (f0, a1, a2, a3, a4, a5, a6, a7, a8, a9))
    (Hk : a7 (v * 16 + sl_cl s v) ≠ -100000 → a8 (sl_cl s v) ≠ -100000 → a8 (sl_cl s v) + a7 (v * 16 + sl_cl s v) ≤ a8 s → ∀ b9, post (f0, a1, a2, a3, a4, a5, a6, a7, a8, b9))
    (Hu : a7 (v * 16 + sl_cl s v) ≠ -100000 → a8 (sl_cl s v) ≠ -100000 → ¬ a8 (sl_cl s v) + a7 (v * 16 + sl_cl s v) ≤ a8 s → ∀ b9, post (f0, a1, a2, a3, a4, a5, a6, a7, upd a8 s (a8 (sl_cl s v) + a7 (v * 16 + sl_cl s v)), b9)) :
    wpX_tryLast post (f0, a1, a2, a3, a4, a5, a6, a7, a8, a9) (nI s) (nI v) := by
  have hl := sl_clt s hs v hv hb
  have hc : sl_cl s v < 16 := by omega
  unfold wpX_tryLast
  dsimp only
  refine nm_r (sl_clr s hs v hv) ⟨pk_in (v * 16 + sl_cl s v) 64 (by omega) (sl_ix _ _), nm_r (e' := a7 (v * 16 + sl_cl s v)) (by rw [sl_ix, nI_clamp (show v * 16 + sl_cl s v < 2 ^ 31 by omega)]) ?_⟩
  rw [nI_clamp (show sl_cl s v < 2 ^ 31 by omega), nI_clamp (show s < 2 ^ 31 by omega)]
  exact br_c (fun g => Hn (Or.inl g)) (fun g => ⟨pk_in _ 16 hc, br_c (fun g2 => Hn (Or.inr g2)) (fun g2 => ⟨pk_in _ 16 hc, nm_e ⟨pk_in s 16 hs, br_c (fun g3 => sl_t77 hs hc (Hk g g2 g3)) (fun g3 => ⟨pk_in s 16 hs, nm_e ⟨pk_in s 16 hs, nm_e (sl_t77 hs hc (Hu g g2 g3))⟩⟩)⟩⟩)⟩)
/-- v can come last in s -/
def sl_cd (T : Nat → Nat → Int32) (B : Nat → Int32) (s v : Nat) : Prop := sl_tb s v = true ∧ T v (sl_cl s v) ≠ -100000 ∧ B (sl_cl s v) ≠ -100000
/-- B is the table of the best structures of a set: its equations -/
def sl_okB (T : Nat → Nat → Int32) (B : Nat → Int32) : Prop := B 0 = 0 ∧ ∀ s, 0 < s → s < 16 →
  -100000 ≤ B s ∧ (∀ v, v < 4 → sl_cd T B s v → B (sl_cl s v) + T v (sl_cl s v) ≤ B s) ∧
  (-100000 = B s ∨ ∃ v, v < 4 ∧ sl_cd T B s v ∧ B (sl_cl s v) + T v (sl_cl s v) = B s)
theorem sl_s57 {post : St2 → Prop} {J34 : Int32 → Int32 → (Nat → Int32) → (Nat → Int32) → (Nat → Int32) → (Nat → Int32) → (Nat → Int32) → (Nat → Int32) → (Nat → Int32) → (Nat → Int32) → (Nat → Int32) → Prop}
    {s : Nat} {f0 : Int32} {a1 a2 a3 a4 a5 a6 a7 a8 a9 B : Nat → Int32} {T : Nat → Nat → Int32} (h0 : 0 < s) (hs : s < 16)
    (h7 : ∀ v, v < 4 → ∀ r, r < 16 → a7 (v * 16 + r) = T v r) (hB : sl_okB T B) (h8 : ∀ r, r < s → a8 r = B r) (h8s : a8 s = -100000)
    (H : ∀ b8 b9 : Nat → Int32, (∀ r, r < s + 1 → b8 r = B r) → J34 (nI (s + 1)) f0 a1 a2 a3 a4 a5 a6 a7 b8 b9) :
    ∃ n, wX_solve_57 post J34 (nI s) n 0 f0 a1 a2 a3 a4 a5 a6 a7 a8 a9 := by
  obtain ⟨k1, k2, k3⟩ := hB.2 s h0 hs
  refine pk_loop (σ := (Nat → Int32) × (Nat → Int32)) (fun n i p => wX_solve_57 post J34 (nI s) n (nI i) f0 a1 a2 a3 a4 a5 a6 a7 p.1 p.2)
    (fun i p => (∀ r, r < s → p.1 r = B r) ∧ p.1 s ≤ B s ∧ (p.1 s = B s ∨ ∃ v, i ≤ v ∧ v < 4 ∧ sl_cd T B s v ∧ B (sl_cl s v) + T v (sl_cl s v) = B s)) 4 0 (a8, a9) (by omega) ?_ ?_ ?_
  · dsimp only
    rw [h8s]
    refine ⟨h8, k1, ?_⟩
    rcases k3 with k3 | ⟨v, p1, p2, p3⟩
    · exact Or.inl k3
    · exact Or.inr ⟨v, by omega, p1, p2, p3⟩
  · intro n p h
    obtain ⟨b8, b9⟩ := p
    dsimp only at h
    obtain ⟨h1, h2, h3⟩ := h
    have e : b8 s = B s := by
      rcases h3 with h3 | ⟨u, p1, p2, _⟩
      · exact h3
      · omega
    refine pk_le 4 4 (fun _ => nm_r (nI_1 s) (H b8 b9 (fun r hr => ?_))) (fun z => absurd z (by omega))
    by_cases er : r = s
    · rw [er, e]
    · exact h1 r (by omega)
  · intro n i p hi h hw
    obtain ⟨b8, b9⟩ := p
    dsimp only at h
    obtain ⟨h1, h2, h3⟩ := h
    show wX_solve_57 post J34 (nI s) (n + 1) (nI i) f0 a1 a2 a3 a4 a5 a6 a7 b8 b9
    refine pk_le 4 i (fun z => absurd z (by omega)) (fun _ => ?_)
    rw [sl_bit s hs i hi]
    cases hb : sl_tb s i with
    | false =>
      refine br_f (by decide) (nm_r (nI_1 i) (hw (b8, b9) ⟨h1, h2, ?_⟩))
      rcases h3 with h3 | ⟨u, p1, p2, p3, p4⟩
      · exact Or.inl h3
      · have ne : u ≠ i := by
          intro e
          have p5 := p3.1
          rw [e, hb] at p5
          cases p5
        exact Or.inr ⟨u, by omega, p2, p3, p4⟩
    | true =>
      have hl := sl_clt s hs i hi hb
      have e7 : a7 (i * 16 + sl_cl s i) = T i (sl_cl s i) := h7 i hi _ (by omega)
      have e8 : b8 (sl_cl s i) = B (sl_cl s i) := h1 _ hl
      refine br_t rfl (sl_try hs hi hb (fun g => nm_r (nI_1 i) (hw (b8, b9) ⟨h1, h2, ?_⟩)) (fun g1 g2 g3 c9 => nm_r (nI_1 i) (hw (b8, c9) ⟨h1, h2, ?_⟩)) (fun g1 g2 g3 c9 => nm_r (nI_1 i) (hw (_, c9) ⟨fun r hr => ?_, ?_, ?_⟩)))
      · rcases h3 with h3 | ⟨u, p1, p2, p3, p4⟩
        · exact Or.inl h3
        · have ne : u ≠ i := by
            intro e
            rw [e] at p3
            rw [e7, e8] at g
            rcases g with g | g
            · exact p3.2.1 g
            · exact p3.2.2 g
          exact Or.inr ⟨u, by omega, p2, p3, p4⟩
      · rcases h3 with h3 | ⟨u, p1, p2, p3, p4⟩
        · exact Or.inl h3
        · by_cases e : u = i
          · rw [e] at p4
            rw [e7, e8, p4] at g3
            exact Or.inl (Int32.le_antisymm h2 g3)
          · exact Or.inr ⟨u, by omega, p2, p3, p4⟩
      · show upd b8 s _ r = B r
        rw [pk_un (by omega)]
        exact h1 r hr
      · show upd b8 s _ s ≤ B s
        rw [e7] at g1
        rw [e8] at g2
        rw [pk_us, e7, e8]
        exact k2 i hi ⟨hb, g1, g2⟩
      · show upd b8 s _ s = B s ∨ _
        rw [pk_us]
        rcases h3 with h3 | ⟨u, p1, p2, p3, p4⟩
        · rw [e7] at g1
          rw [e8] at g2
          rw [e7, e8, h3] at g3
          exact absurd (k2 i hi ⟨hb, g1, g2⟩) g3
        · by_cases e : u = i
          · rw [e] at p4
            rw [e7, e8]
            exact Or.inl p4
          · exact Or.inr ⟨u, by omega, p2, p3, p4⟩
theorem sl_s34 {post : St2 → Prop} {f0 : Int32} {a1 a2 a3 a4 a5 a6 a7 a8 a9 B : Nat → Int32} {T : Nat → Nat → Int32}
    (h7 : ∀ v, v < 4 → ∀ r, r < 16 → a7 (v * 16 + r) = T v r) (hB : sl_okB T B) (h8 : a8 0 = 0)
    (H : ∀ b8 b9 : Nat → Int32, b8 15 = B 15 → post (f0, a1, a2, a3, a4, a5, a6, a7, b8, b9)) :
    ∃ n, wX_solve_34 post n 1 f0 a1 a2 a3 a4 a5 a6 a7 a8 a9 := by
  refine pk_loop (σ := (Nat → Int32) × (Nat → Int32)) (fun n i p => wX_solve_34 post n (nI i) f0 a1 a2 a3 a4 a5 a6 a7 p.1 p.2)
    (fun i p => 0 < i ∧ ∀ r, r < i → p.1 r = B r) 16 1 (a8, a9) (by omega) ?_ ?_ ?_
  · refine ⟨by omega, fun r hr => ?_⟩
    rw [show r = 0 by omega, hB.1]
    exact h8
  · intro n p h
    exact pk_le 16 16 (fun _ => H p.1 p.2 (h.2 15 (by omega))) (fun z => absurd z (by omega))
  · intro n i p hi h hw
    obtain ⟨b8, b9⟩ := p
    obtain ⟨h0, h1⟩ := h
    show wX_solve_34 post (n + 1) (nI i) f0 a1 a2 a3 a4 a5 a6 a7 b8 b9
    refine pk_le 16 i (fun z => absurd z (by omega)) (fun _ => ⟨pk_in i 16 hi, nm_e ⟨pk_in i 16 hi, nm_e ?_⟩⟩)
    rw [nI_clamp (show i < 2 ^ 31 by omega)]
    refine sl_s57 h0 hi h7 hB (fun r hr => ?_) pk_us (fun c8 c9 hc => hw (c8, c9) ⟨by omega, hc⟩)
    rw [pk_un (by omega)]
    exact h1 r hr
theorem sl_solve {post : St2 → Prop} {a1 a2 a3 a4 a5 a6 a7 a8 a9 B : Nat → Int32} {T : Nat → Nat → Int32} (h4 : ∀ v, v < 4 → a4 v < 0)
    (hT : ∀ v, v < 4 → sl_okT v (a2 v ||| a6 v) (a3 v ||| a5 v) a1 (T v)) (hB : sl_okB T B)
    (H : ∀ b7 b8 b9 : Nat → Int32, b8 15 = B 15 → post (3, a1, a2, a3, a4, a5, a6, b7, b8, b9)) :
    wpX_solve post (3, a1, a2, a3, a4, a5, a6, a7, a8, a9) := by
  refine pk_loop (fun n i b7 => wX_solve_2 post n (nI i) 3 a1 a2 a3 a4 a5 a6 b7 a8 a9)
    (fun i b7 => ∀ v, v < i → ∀ r, r < 16 → b7 (v * 16 + r) = T v r) 4 0 a7 (by omega) (fun v hv => absurd hv (by omega))
    (fun n b7 h => pk_le 4 4 (fun _ => nm_e (nm_e (sl_s34 h hB pk_us (H b7)))) (fun z => absurd z (by omega))) ?_
  intro n i b7 hi h hw
  refine pk_le 4 i (fun z => absurd z (by omega)) (fun _ => sl_fw hi (h4 i hi) (hT i hi) (fun c7 h1 h2 => nm_r (nI_1 i) (hw c7 (fun v hv r hr => ?_))))
  by_cases e : v = i
  · rw [e]
    exact h1 r hr
  · rw [h2 _ (by omega)]
    exact h v (by omega) r hr
end
section
/-- what a tag stands for: none, nothing, the smaller and the greater of the two scores -/
def sl_val (x y : Int32) : Nat → Int32
  | 0 => -100000
  | 1 => 0
  | 2 => x
  | _ + 3 => y
theorem sl_valS {x y : Int32} (hx : 0 ≤ x) (hy : x ≤ y) : ∀ i, sl_val x y i ≤ sl_val x y (i + 1)
  | 0 => (by decide : (-100000 : Int32) ≤ 0)
  | 1 => hx
  | 2 => hy
  | _ + 3 => Int32.le_refl y
theorem sl_mono {x y : Int32} (hx : 0 ≤ x) (hy : x ≤ y) {i j : Nat} (h : i ≤ j) : sl_val x y i ≤ sl_val x y j := by
  induction h with
  | refl => exact Int32.le_refl _
  | step _ ih => exact Int32.le_trans ih (sl_valS hx hy _)
theorem sl_some {x y : Int32} (hx : 0 ≤ x) (hy : x ≤ y) {i : Nat} (h : i ≠ 0) : sl_val x y i ≠ -100000 := by
  intro e
  have h1 : sl_val x y 1 ≤ sl_val x y i := sl_mono hx hy (by omega)
  rw [e] at h1
  exact absurd h1 (show ¬ (0 : Int32) ≤ -100000 by decide)
theorem sl_nz {x y : Int32} {i : Nat} (h : sl_val x y i ≠ -100000) : i ≠ 0 := by
  intro e
  rw [e] at h
  exact h rfl
/-- the sum of two tags of which one is nothing -/
def sl_add (i j : Nat) : Nat := if i = 1 then j else i
theorem sl_addv {x y : Int32} {i j : Nat} (h : i = 1 ∨ j = 1) : sl_val x y i + sl_val x y j = sl_val x y (sl_add i j) := by
  unfold sl_add
  by_cases e : i = 1
  · rw [if_pos e, e]
    exact Int32.zero_add _
  · rw [if_neg e, h.resolve_left e]
    exact Int32.add_zero _
/-- scores by tags: b's parents a have the tag 2 + k, a's parents b the tag 3 - k, all else is nothing -/
def sl_sT (a b k v s : Nat) : Nat := if v = b ∧ s = 2 ^ a then 2 + k else if v = a ∧ s = 2 ^ b then 3 - k else 1
/-- what is forbidden and required, by the mode m: 0 free, 1 a must go into b, 2 b must go into a, 3 a must not go into b, 4 both 1 and 3 -/
def sl_F (m a b v : Nat) : Nat := if (m = 3 ∨ m = 4) ∧ v = b then 2 ^ a else 0
def sl_R (m a b v : Nat) : Nat := if (m = 1 ∨ m = 4) ∧ v = b then 2 ^ a else if m = 2 ∧ v = a then 2 ^ b else 0
def sl_T (m a b k v s : Nat) : Nat :=
  if v = b then (if m = 3 then 1 else if m = 4 then 0 else if sl_tb s a then 2 + k else if m = 1 then 0 else 1)
  else if v = a then (if sl_tb s b then 3 - k else if m = 2 then 0 else 1) else 1
def sl_M (m k : Nat) : Nat := if m = 0 then 3 else if m = 1 then 2 + k else if m = 4 then 0 else 3 - k
def sl_B (m a b k s : Nat) : Nat :=
  if sl_tb s a then (if sl_tb s b then sl_M m k else if m = 2 then 0 else 1)
  else if sl_tb s b then (if m = 1 ∨ m = 4 then 0 else 1) else 1
theorem sl_F16 : ∀ m, m < 5 → ∀ a, a < 4 → ∀ b, b < 4 → ∀ v, v < 4 → sl_F m a b v < 16 ∧ sl_R m a b v < 16 := by decide +kernel
/-- for all, for some u below 4; for all s below 16 -/
def sl_al4 (P : Nat → Bool) : Bool := P 0 && (P 1 && (P 2 && P 3))
def sl_an4 (P : Nat → Bool) : Bool := P 0 || (P 1 || (P 2 || P 3))
def sl_al16 (P : Nat → Bool) : Bool := sl_al4 (fun i => sl_al4 (fun j => P (4 * i + j)))
theorem sl_al4e {P : Nat → Bool} (h : sl_al4 P = true) {u : Nat} (hu : u < 4) : P u = true := by
  unfold sl_al4 at h
  rw [Bool.and_eq_true, Bool.and_eq_true, Bool.and_eq_true] at h
  rcases (by omega : u = 0 ∨ u = 1 ∨ u = 2 ∨ u = 3) with e | e | e | e
  · rw [e]; exact h.1
  · rw [e]; exact h.2.1
  · rw [e]; exact h.2.2.1
  · rw [e]; exact h.2.2.2
theorem sl_an4e {P : Nat → Bool} (h : sl_an4 P = true) : ∃ u, u < 4 ∧ P u = true := by
  unfold sl_an4 at h
  rw [Bool.or_eq_true, Bool.or_eq_true, Bool.or_eq_true] at h
  rcases h with h | h | h | h
  · exact ⟨0, by decide, h⟩
  · exact ⟨1, by decide, h⟩
  · exact ⟨2, by decide, h⟩
  · exact ⟨3, by decide, h⟩
theorem sl_al16e {P : Nat → Bool} (h : sl_al16 P = true) {s : Nat} (hs : s < 16) : P s = true := by
  have h1 := sl_al4e (sl_al4e h (show s / 4 < 4 by omega)) (show s % 4 < 4 by omega)
  rw [show 4 * (s / 4) + s % 4 = s by omega] at h1
  exact h1
/-- the equations of the table of v at the set s, by tags -/
def sl_hT (m a b k v s : Nat) : Bool := sl_an4 (fun u => sl_tb s u && (sl_T m a b k v (sl_cl s u) == sl_T m a b k v s))
def sl_ckT (m a b k v s : Nat) : Bool :=
  sl_al4 (fun u => !sl_tb s u || Nat.ble (sl_T m a b k v (sl_cl s u)) (sl_T m a b k v s)) &&
  ((!(!sl_tb s v && ((s &&& sl_F m a b v == 0) && (s &&& sl_R m a b v == sl_R m a b v))) || (Nat.ble (sl_sT a b k v s) (sl_T m a b k v s) && ((sl_sT a b k v s == sl_T m a b k v s) || sl_hT m a b k v s))) &&
   ((!sl_tb s v && ((s &&& sl_F m a b v == 0) && (s &&& sl_R m a b v == sl_R m a b v))) || ((0 == sl_T m a b k v s) || sl_hT m a b k v s)))
theorem sl_tagT0 : ∀ m, m < 5 → ∀ a, a < 4 → ∀ b, b < 4 → ((a == b) || sl_al4 (fun v => sl_al16 (fun s => sl_ckT m a b 0 v s && sl_ckT m a b 1 v s))) = true := by decide +kernel
theorem sl_tagT1 {m a b k v s : Nat} (hm : m < 5) (ha : a < 4) (hb : b < 4) (hab : a ≠ b) (hk : k < 2) (hv : v < 4) (hs : s < 16) : sl_ckT m a b k v s = true := by
  have h := sl_tagT0 m hm a ha b hb
  rw [beq_false_of_ne hab, Bool.false_or] at h
  have h1 := sl_al16e (sl_al4e h hv) hs
  rw [Bool.and_eq_true] at h1
  rcases (by omega : k = 0 ∨ k = 1) with e | e
  · rw [e]; exact h1.1
  · rw [e]; exact h1.2
theorem sl_hTe {m a b k v s : Nat} (h : sl_hT m a b k v s = true) : ∃ u, u < 4 ∧ sl_tb s u = true ∧ sl_T m a b k v (sl_cl s u) = sl_T m a b k v s := by
  obtain ⟨u, hu, h1⟩ := sl_an4e h
  rw [Bool.and_eq_true, beq_iff_eq] at h1
  exact ⟨u, hu, h1.1, h1.2⟩
theorem sl_tagT {m a b k v s : Nat} (hm : m < 5) (ha : a < 4) (hb : b < 4) (hab : a ≠ b) (hk : k < 2) (hv : v < 4) (hs : s < 16) :
    (∀ u, u < 4 → sl_tb s u = true → sl_T m a b k v (sl_cl s u) ≤ sl_T m a b k v s) ∧
    ((sl_tb s v = false ∧ s &&& sl_F m a b v = 0 ∧ s &&& sl_R m a b v = sl_R m a b v) → sl_sT a b k v s ≤ sl_T m a b k v s ∧
      (sl_sT a b k v s = sl_T m a b k v s ∨ ∃ u, u < 4 ∧ sl_tb s u = true ∧ sl_T m a b k v (sl_cl s u) = sl_T m a b k v s)) ∧
    (¬ (sl_tb s v = false ∧ s &&& sl_F m a b v = 0 ∧ s &&& sl_R m a b v = sl_R m a b v) →
      (0 = sl_T m a b k v s ∨ ∃ u, u < 4 ∧ sl_tb s u = true ∧ sl_T m a b k v (sl_cl s u) = sl_T m a b k v s)) := by
  have h := sl_tagT1 hm ha hb hab hk hv hs
  unfold sl_ckT at h
  rw [Bool.and_eq_true, Bool.and_eq_true] at h
  obtain ⟨h1, h2, h3⟩ := h
  have ec : (!sl_tb s v && ((s &&& sl_F m a b v == 0) && (s &&& sl_R m a b v == sl_R m a b v))) = true ↔ (sl_tb s v = false ∧ s &&& sl_F m a b v = 0 ∧ s &&& sl_R m a b v = sl_R m a b v) := by
    rw [Bool.and_eq_true, Bool.and_eq_true, beq_iff_eq, beq_iff_eq, Bool.not_eq_true']
  rw [← ec]
  refine ⟨fun u hu hbu => ?_, fun g => ?_, fun g => ?_⟩
  · have h4 := sl_al4e h1 hu
    rw [hbu, Bool.not_true, Bool.false_or] at h4
    exact Nat.le_of_ble_eq_true h4
  · rw [g, Bool.not_true, Bool.false_or, Bool.and_eq_true, Bool.or_eq_true, beq_iff_eq] at h2
    exact ⟨Nat.le_of_ble_eq_true h2.1, h2.2.imp id sl_hTe⟩
  · rw [eq_false_of_ne_true g, Bool.false_or, Bool.or_eq_true, beq_iff_eq] at h3
    exact h3.imp id sl_hTe
/-- the equations of the table of the best structures at the set s, by tags -/
def sl_cB (m a b k s v : Nat) : Bool := sl_tb s v && (!(sl_T m a b k v (sl_cl s v) == 0) && !(sl_B m a b k (sl_cl s v) == 0))
def sl_ckB (m a b k s : Nat) : Bool :=
  sl_al4 (fun v => !sl_cB m a b k s v || (((sl_B m a b k (sl_cl s v) == 1) || (sl_T m a b k v (sl_cl s v) == 1)) && Nat.ble (sl_add (sl_B m a b k (sl_cl s v)) (sl_T m a b k v (sl_cl s v))) (sl_B m a b k s))) &&
  ((0 == sl_B m a b k s) || sl_an4 (fun v => sl_cB m a b k s v && (sl_add (sl_B m a b k (sl_cl s v)) (sl_T m a b k v (sl_cl s v)) == sl_B m a b k s)))
theorem sl_tagB0 : ∀ m, m < 5 → ∀ a, a < 4 → ∀ b, b < 4 → ((a == b) || sl_al16 (fun s => (s == 0) || (sl_ckB m a b 0 s && sl_ckB m a b 1 s))) = true := by decide +kernel
theorem sl_tagB1 {m a b k s : Nat} (hm : m < 5) (ha : a < 4) (hb : b < 4) (hab : a ≠ b) (hk : k < 2) (hs : s < 16) (h0 : 0 < s) : sl_ckB m a b k s = true := by
  have h := sl_tagB0 m hm a ha b hb
  rw [beq_false_of_ne hab, Bool.false_or] at h
  have h1 := sl_al16e h hs
  rw [beq_false_of_ne (show s ≠ 0 by omega), Bool.false_or, Bool.and_eq_true] at h1
  rcases (by omega : k = 0 ∨ k = 1) with e | e
  · rw [e]; exact h1.1
  · rw [e]; exact h1.2
theorem sl_cBe {m a b k s v : Nat} : sl_cB m a b k s v = true ↔ (sl_tb s v = true ∧ sl_T m a b k v (sl_cl s v) ≠ 0 ∧ sl_B m a b k (sl_cl s v) ≠ 0) := by
  unfold sl_cB
  rw [Bool.and_eq_true, Bool.and_eq_true, Bool.not_eq_true', Bool.not_eq_true', beq_eq_false_iff_ne, beq_eq_false_iff_ne]
theorem sl_tagB {m a b k s : Nat} (hm : m < 5) (ha : a < 4) (hb : b < 4) (hab : a ≠ b) (hk : k < 2) (hs : s < 16) (h0 : 0 < s) :
    (∀ v, v < 4 → sl_tb s v = true → sl_T m a b k v (sl_cl s v) ≠ 0 → sl_B m a b k (sl_cl s v) ≠ 0 →
      (sl_B m a b k (sl_cl s v) = 1 ∨ sl_T m a b k v (sl_cl s v) = 1) ∧ sl_add (sl_B m a b k (sl_cl s v)) (sl_T m a b k v (sl_cl s v)) ≤ sl_B m a b k s) ∧
    (0 = sl_B m a b k s ∨ ∃ v, v < 4 ∧ sl_tb s v = true ∧ sl_T m a b k v (sl_cl s v) ≠ 0 ∧ sl_B m a b k (sl_cl s v) ≠ 0 ∧
      sl_add (sl_B m a b k (sl_cl s v)) (sl_T m a b k v (sl_cl s v)) = sl_B m a b k s) := by
  have h := sl_tagB1 hm ha hb hab hk hs h0
  unfold sl_ckB at h
  rw [Bool.and_eq_true] at h
  obtain ⟨h1, h2⟩ := h
  refine ⟨fun v hv c1 c2 c3 => ?_, ?_⟩
  · have h4 := sl_al4e h1 hv
    rw [sl_cBe.mpr ⟨c1, c2, c3⟩, Bool.not_true, Bool.false_or, Bool.and_eq_true, Bool.or_eq_true, beq_iff_eq, beq_iff_eq] at h4
    exact ⟨h4.1, Nat.le_of_ble_eq_true h4.2⟩
  · rw [Bool.or_eq_true, beq_iff_eq] at h2
    refine h2.imp id (fun h5 => ?_)
    obtain ⟨v, hv, h6⟩ := sl_an4e h5
    rw [Bool.and_eq_true, beq_iff_eq, sl_cBe] at h6
    exact ⟨v, hv, h6.1.1, h6.1.2.1, h6.1.2.2, h6.2⟩
theorem sl_B0 : ∀ m, m < 5 → ∀ a, a < 4 → ∀ b, b < 4 → ∀ k, k < 2 → sl_B m a b k 0 = 1 := by decide +kernel
theorem sl_B15 : ∀ m, m < 5 → ∀ a, a < 4 → ∀ b, b < 4 → ∀ k, k < 2 → sl_B m a b k 15 = sl_M m k := by decide +kernel
/-- the scores as the law has set them, and the numbers that the tags stand for -/
def sl_S (a b k : Nat) (x y : Int32) (a1 : Nat → Int32) : Prop :=
  a < 4 ∧ b < 4 ∧ a ≠ b ∧ k < 2 ∧ 0 ≤ x ∧ x ≤ y ∧ ∀ v, v < 4 → ∀ s, s < 16 → a1 (v * 16 + s) = sl_val x y (sl_sT a b k v s)
theorem sl_okT_of {a b k m v : Nat} {x y : Int32} {a1 : Nat → Int32} (hS : sl_S a b k x y a1) (hm : m < 5) (hv : v < 4) :
    sl_okT v (nI (sl_F m a b v)) (nI (sl_R m a b v)) a1 (fun s => sl_val x y (sl_T m a b k v s)) := by
  obtain ⟨ha, hb, hab, hk, hx, hy, h1⟩ := hS
  intro s hs
  obtain ⟨t1, t2, t3⟩ := sl_tagT hm ha hb hab hk hv hs
  obtain ⟨f1, f2⟩ := sl_F16 m hm a ha b hb v hv
  have e : sl_al v s (nI (sl_F m a b v)) (nI (sl_R m a b v)) ↔ (sl_tb s v = false ∧ s &&& sl_F m a b v = 0 ∧ s &&& sl_R m a b v = sl_R m a b v) := by
    unfold sl_al
    rw [sl_an0 s hs _ f1, sl_anR s hs _ f2]
  rw [e, h1 v hv s hs]
  refine ⟨fun u hu hbu => sl_mono hx hy (t1 u hu hbu), fun g => ⟨sl_mono hx hy (t2 g).1, ?_⟩, fun g => ⟨sl_mono (i := 0) hx hy (by omega), ?_⟩⟩
  · rcases (t2 g).2 with z | ⟨u, p1, p2, p3⟩
    · exact Or.inl (congrArg (sl_val x y) z)
    · exact Or.inr ⟨u, p1, p2, congrArg (sl_val x y) p3⟩
  · rcases t3 g with z | ⟨u, p1, p2, p3⟩
    · exact Or.inl (congrArg (sl_val x y) z)
    · exact Or.inr ⟨u, p1, p2, congrArg (sl_val x y) p3⟩
theorem sl_okB_of {a b k m : Nat} {x y : Int32} {a1 : Nat → Int32} (hS : sl_S a b k x y a1) (hm : m < 5) :
    sl_okB (fun v s => sl_val x y (sl_T m a b k v s)) (fun s => sl_val x y (sl_B m a b k s)) := by
  obtain ⟨ha, hb, hab, hk, hx, hy, _⟩ := hS
  refine ⟨?_, fun s h0 hs => ?_⟩
  · show sl_val x y (sl_B m a b k 0) = 0
    rw [sl_B0 m hm a ha b hb k hk]
    rfl
  obtain ⟨t1, t2⟩ := sl_tagB hm ha hb hab hk hs h0
  refine ⟨sl_mono (i := 0) hx hy (by omega), fun v hv hc => ?_, ?_⟩
  · obtain ⟨c1, c2, c3⟩ := hc
    obtain ⟨p1, p2⟩ := t1 v hv c1 (sl_nz c2) (sl_nz c3)
    show sl_val x y (sl_B m a b k (sl_cl s v)) + sl_val x y (sl_T m a b k v (sl_cl s v)) ≤ sl_val x y (sl_B m a b k s)
    rw [sl_addv p1]
    exact sl_mono hx hy p2
  · rcases t2 with z | ⟨v, hv, c1, c2, c3, c4⟩
    · exact Or.inl (congrArg (sl_val x y) z)
    · refine Or.inr ⟨v, hv, ⟨c1, sl_some hx hy c2, sl_some hx hy c3⟩, ?_⟩
      show sl_val x y (sl_B m a b k (sl_cl s v)) + sl_val x y (sl_T m a b k v (sl_cl s v)) = sl_val x y (sl_B m a b k s)
      rw [sl_addv (t1 v hv c1 c2 c3).1, c4]
end
section
theorem sl_run {post : St2 → Prop} {a b k m : Nat} {x y : Int32} {a1 a2 a3 a4 a5 a6 a7 a8 a9 : Nat → Int32} (hS : sl_S a b k x y a1) (hm : m < 5)
    (h4 : ∀ v, v < 4 → a4 v = -1) (hF : ∀ v, v < 4 → a2 v ||| a6 v = nI (sl_F m a b v)) (hR : ∀ v, v < 4 → a3 v ||| a5 v = nI (sl_R m a b v))
    (H : ∀ b7 b8 b9 : Nat → Int32, b8 15 = sl_val x y (sl_M m k) → post (3, a1, a2, a3, a4, a5, a6, b7, b8, b9)) :
    wpX_solve post (3, a1, a2, a3, a4, a5, a6, a7, a8, a9) := by
  refine sl_solve (T := fun v s => sl_val x y (sl_T m a b k v s)) (B := fun s => sl_val x y (sl_B m a b k s)) (fun v hv => ?_) (fun v hv => ?_) (sl_okB_of hS hm) (fun b7 b8 b9 h => H b7 b8 b9 ?_)
  · rw [h4 v hv]
    decide
  · rw [hF v hv, hR v hv]
    exact sl_okT_of hS hm hv
  · rw [h]
    show sl_val x y (sl_B m a b k 15) = _
    rw [sl_B15 m hm a hS.1 b hS.2.1 k hS.2.2.2.1]
theorem sl_up {f : Nat → Int32} {i : Nat} {c : Int32} (h : ∀ v, v < i → f v = c) : ∀ v, v < i + 1 → upd f i c v = c := by
  intro v hv
  by_cases e : v = i
  · rw [e, pk_us]
  · rw [pk_un e]
    exact h v (by omega)
theorem sl_nod {post : St2 → Prop} {f0 : Int32} {a1 a2 a3 a4 a5 a6 a7 a8 a9 : Nat → Int32}
    (H : ∀ b4 b5 b6 : Nat → Int32, (∀ v, v < 4 → b4 v = -1) → (∀ v, v < 4 → b5 v = 0) → (∀ v, v < 4 → b6 v = 0) → post (f0, a1, a2, a3, b4, b5, b6, a7, a8, a9)) :
    wpX_noDemands post (f0, a1, a2, a3, a4, a5, a6, a7, a8, a9) := by
  refine pk_loop (σ := (Nat → Int32) × (Nat → Int32) × (Nat → Int32)) (fun n i p => wX_noDemands_2 post f0 n (nI i) a1 a2 a3 p.1 p.2.1 p.2.2 a7 a8 a9)
    (fun i p => (∀ v, v < i → p.1 v = -1) ∧ (∀ v, v < i → p.2.1 v = 0) ∧ (∀ v, v < i → p.2.2 v = 0)) 4 0 (a4, a5, a6) (by omega)
    ⟨fun v hv => absurd hv (by omega), fun v hv => absurd hv (by omega), fun v hv => absurd hv (by omega)⟩
    (fun n p h => pk_le 4 4 (fun _ => H p.1 p.2.1 p.2.2 h.1 h.2.1 h.2.2) (fun z => absurd z (by omega))) ?_
  intro n i p hi h hw
  obtain ⟨b4, b5, b6⟩ := p
  obtain ⟨h1, h2, h3⟩ := h
  show wX_noDemands_2 post f0 (n + 1) (nI i) a1 a2 a3 b4 b5 b6 a7 a8 a9
  refine pk_le 4 i (fun z => absurd z (by omega)) (fun _ => ⟨pk_in i 4 hi, nm_e ⟨pk_in i 4 hi, nm_e ⟨pk_in i 4 hi, nm_e (nm_r (nI_1 i) ?_)⟩⟩⟩)
  rw [nI_clamp (show i < 2 ^ 31 by omega)]
  exact hw (upd b4 i (-1), upd b5 i 0, upd b6 i 0) ⟨sl_up h1, sl_up h2, sl_up h3⟩
theorem sl_best {post : Int32 → St2 → Prop} {a b k m : Nat} {x y : Int32} {a1 a2 a3 a4 a5 a6 a7 a8 a9 : Nat → Int32} (hS : sl_S a b k x y a1) (hm : m < 5)
    (hF : ∀ v, v < 4 → a2 v = nI (sl_F m a b v)) (hR : ∀ v, v < 4 → a3 v = nI (sl_R m a b v))
    (H : ∀ b4 b5 b6 b7 b8 b9 : Nat → Int32, post (sl_val x y (sl_M m k)) (3, a1, a2, a3, b4, b5, b6, b7, b8, b9)) :
    wpX_best post (3, a1, a2, a3, a4, a5, a6, a7, a8, a9) := by
  unfold wpX_best
  dsimp only
  refine sl_nod (fun b4 b5 b6 h4 h5 h6 => ?_)
  dsimp only
  refine sl_run hS hm h4 (fun v hv => ?_) (fun v hv => ?_) (fun b7 b8 b9 h => ?_)
  · rw [h6 v hv, Int32.or_zero]
    exact hF v hv
  · rw [h5 v hv, Int32.or_zero]
    exact hR v hv
  · dsimp only
    rw [h]
    exact H _ _ _ _ _ _
theorem sl_with {post : Int32 → St2 → Prop} {a b k m c d : Nat} {x y : Int32} {a1 a2 a3 a4 a5 a6 a7 a8 a9 : Nat → Int32} (hS : sl_S a b k x y a1) (hm : m < 5)
    (hc : c < 4) (hd : d < 4) (hcd : c ≠ d) (hF : ∀ v, v < 4 → a2 v = nI (sl_F m a b v)) (h3 : ∀ v, v < 4 → a3 v = 0)
    (hR : ∀ v, v < 4 → (if v = d then 2 ^ c else 0) = sl_R m a b v)
    (H : ∀ b4 b5 b6 b7 b8 b9 : Nat → Int32, post (sl_val x y (sl_M m k)) (3, a1, a2, a3, b4, b5, b6, b7, b8, b9)) :
    wpX_bestWith post (3, a1, a2, a3, a4, a5, a6, a7, a8, a9) (nI c) (nI d) := by
  unfold wpX_bestWith
  dsimp only
  refine sl_bad hc (br_t rfl (sl_bad hd (br_t rfl (pk_eq c d (fun z => absurd z hcd) (fun _ => sl_nod (fun b4 b5 b6 h4 h5 h6 => ?_))))))
  dsimp only
  refine ⟨pk_in d 4 hd, nm_r (e' := upd b5 d (nI (2 ^ c))) (by rw [nI_clamp (show d < 2 ^ 31 by omega), sl_pow c hc]) ?_⟩
  refine sl_run hS hm h4 (fun v hv => ?_) (fun v hv => ?_) (fun b7 b8 b9 h => ?_)
  · rw [h6 v hv, Int32.or_zero]
    exact hF v hv
  · rw [h3 v hv, Int32.zero_or, ← hR v hv]
    by_cases e : v = d
    · rw [e, pk_us, if_pos rfl]
    · rw [pk_un e, if_neg e]
      exact h5 v hv
  · dsimp only
    rw [h]
    exact H _ _ _ _ _ _
theorem sl_without {post : Int32 → St2 → Prop} {a b k m c d : Nat} {x y : Int32} {a1 a2 a3 a4 a5 a6 a7 a8 a9 : Nat → Int32} (hS : sl_S a b k x y a1) (hm : m < 5)
    (hc : c < 4) (hd : d < 4) (hcd : c ≠ d) (h2 : ∀ v, v < 4 → a2 v = 0) (hR : ∀ v, v < 4 → a3 v = nI (sl_R m a b v))
    (hF : ∀ v, v < 4 → (if v = d then 2 ^ c else 0) = sl_F m a b v)
    (H : ∀ b4 b5 b6 b7 b8 b9 : Nat → Int32, post (sl_val x y (sl_M m k)) (3, a1, a2, a3, b4, b5, b6, b7, b8, b9)) :
    wpX_bestWithout post (3, a1, a2, a3, a4, a5, a6, a7, a8, a9) (nI c) (nI d) := by
  unfold wpX_bestWithout
  dsimp only
  refine sl_bad hc (br_t rfl (sl_bad hd (br_t rfl (pk_eq c d (fun z => absurd z hcd) (fun _ => sl_nod (fun b4 b5 b6 h4 h5 h6 => ?_))))))
  dsimp only
  refine ⟨pk_in d 4 hd, nm_r (e' := upd b6 d (nI (2 ^ c))) (by rw [nI_clamp (show d < 2 ^ 31 by omega), sl_pow c hc]) ?_⟩
  refine sl_run hS hm h4 (fun v hv => ?_) (fun v hv => ?_) (fun b7 b8 b9 h => ?_)
  · rw [h2 v hv, Int32.zero_or, ← hF v hv]
    by_cases e : v = d
    · rw [e, pk_us, if_pos rfl]
    · rw [pk_un e, if_neg e]
      exact h6 v hv
  · rw [h5 v hv, Int32.or_zero]
    exact hR v hv
  · dsimp only
    rw [h]
    exact H _ _ _ _ _ _
theorem sl_score {post : Int32 → St2 → Prop} {v s : Nat} {f0 z : Int32} {a1 a2 a3 a4 a5 a6 a7 a8 a9 : Nat → Int32} (hv : v < 4) (hs : s < 16) (hb : sl_tb s v = false)
    (h1 : ¬ z < -1000) (h2 : z ≤ 1000) (H : post 0 (f0, upd a1 (v * 16 + s) z, a2, a3, a4, a5, a6, a7, a8, a9)) :
    wpX_score post (f0, a1, a2, a3, a4, a5, a6, a7, a8, a9) (nI v) (nI s) z := by
  unfold wpX_score
  dsimp only
  refine sl_bad hv (br_t rfl (sl_badP hv hs (fun g => ?_) (fun _ => br_t rfl (br_f h1 (br_t h2 ⟨pk_in (v * 16 + s) 64 (by omega) (sl_ix v s), nm_r (e' := upd a1 (v * 16 + s) z) (by rw [sl_ix, nI_clamp (show v * 16 + s < 2 ^ 31 by omega)]) H⟩)))))
  rw [hb] at g
  cases g
theorem sl_edge {post : Int32 → St2 → Prop} {c d : Nat} {f0 : Int32} {a1 a2 a3 a4 a5 a6 a7 a8 a9 : Nat → Int32} (hc : c < 4) (hd : d < 4) (hcd : c ≠ d) (h2 : a2 d = 0) (h3 : a3 d = 0)
    (H : ∀ (r : Int32) (b2 b3 : Nat → Int32), (∀ j, j ≠ d → b2 j = a2 j) → b2 d = nI (2 ^ c) → (∀ j, j ≠ d → b3 j = a3 j) → b3 d = 0 → post r (f0, a1, b2, b3, a4, a5, a6, a7, a8, a9)) :
    wpX_edge post (f0, a1, a2, a3, a4, a5, a6, a7, a8, a9) (nI c) (nI d) 1 := by
  unfold wpX_edge
  dsimp only
  refine sl_bad hc (br_t rfl (sl_bad hd (br_t rfl (pk_eq c d (fun z => absurd z hcd) (fun _ => nm_r (sl_pow c hc) ⟨pk_in d 4 hd, ?_⟩)))))
  rw [nI_clamp (show d < 2 ^ 31 by omega), h2, h3, Int32.zero_and]
  refine br_t rfl ⟨pk_in d 4 hd, br_t rfl ?_⟩
  unfold wX_edge_59
  refine ⟨pk_in d 4 hd, pk_in d 4 hd, nm_e ⟨pk_in d 4 hd, pk_in d 4 hd, nm_e (br_t (by decide) ⟨pk_in d 4 hd, pk_in d 4 hd, nm_e ?_⟩)⟩⟩
  rw [nI_clamp (show d < 2 ^ 31 by omega), pk_us, h2, h3, Int32.zero_and, Int32.zero_or]
  unfold wX_edge_105
  refine br_f (by decide) (H _ _ _ (fun j hj => ?_) pk_us (fun j hj => pk_un hj) pk_us)
  rw [pk_un hj, pk_un hj]
end
section
theorem sl_m1 : ∀ a, a < 4 → ∀ b, b < 4 → ∀ v, v < 4 → sl_F 0 a b v = 0 ∧ sl_R 0 a b v = 0 ∧ sl_F 1 a b v = 0 ∧ sl_F 2 a b v = 0 := by decide +kernel
theorem sl_m2 : ∀ a, a < 4 → ∀ b, b < 4 → ∀ v, v < 4 → sl_R 3 a b v = 0 ∧ sl_F 4 a b v = sl_F 3 a b v := by decide +kernel
theorem sl_m3 : ∀ a, a < 4 → ∀ b, b < 4 → ∀ v, v < 4 → (if v = b then 2 ^ a else 0) = sl_R 1 a b v ∧ (if v = a then 2 ^ b else 0) = sl_R 2 a b v := by decide +kernel
theorem sl_m4 : ∀ a, a < 4 → ∀ b, b < 4 → ∀ v, v < 4 → (if v = b then 2 ^ a else 0) = sl_F 3 a b v ∧ (if v = b then 2 ^ a else 0) = sl_R 4 a b v := by decide +kernel
theorem sl_m0 (a : Nat) (ha : a < 4) (b : Nat) (hb : b < 4) (v : Nat) (hv : v < 4) : sl_F 0 a b v = 0 ∧ sl_R 0 a b v = 0 ∧ sl_F 1 a b v = 0 ∧ sl_F 2 a b v = 0 ∧ sl_R 3 a b v = 0 ∧ sl_F 4 a b v = sl_F 3 a b v ∧
    (if v = b then 2 ^ a else 0) = sl_R 1 a b v ∧ (if v = a then 2 ^ b else 0) = sl_R 2 a b v ∧ (if v = b then 2 ^ a else 0) = sl_F 3 a b v ∧ (if v = b then 2 ^ a else 0) = sl_R 4 a b v :=
  ⟨(sl_m1 a ha b hb v hv).1, (sl_m1 a ha b hb v hv).2.1, (sl_m1 a ha b hb v hv).2.2.1, (sl_m1 a ha b hb v hv).2.2.2, (sl_m2 a ha b hb v hv).1, (sl_m2 a ha b hb v hv).2,
    (sl_m3 a ha b hb v hv).1, (sl_m3 a ha b hb v hv).2, (sl_m4 a ha b hb v hv).1, (sl_m4 a ha b hb v hv).2⟩
theorem sl_91 {post : Int32 → St0 → Prop} {mc ms kc ks a b k : Nat} {x y p q z : Int32} {a1 a2 a3 a4 a5 a6 a7 a8 a9 : Nat → Int32} (hS : sl_S a b k x y a1)
    (hp : sl_val x y (2 + k) = p) (hq : sl_val x y (3 - k) = q) (hz : sl_val x y 3 = z) (h2 : ∀ v, v < 4 → a2 v = 0) (h3 : ∀ v, v < 4 → a3 v = 0) (H : post 1 ()) :
    wL_lawOf_91 post mc ms (nI a) (nI b) p q z kc ks 3 a1 a2 a3 a4 a5 a6 a7 a8 a9 := by
  have ha := hS.1
  have hb := hS.2.1
  have hab := hS.2.2.1
  have e0 : ∀ {v n : Nat}, v < 4 → n = 0 → a2 v = nI n := fun {v n} hv hn => by rw [h2 v hv, hn]; rfl
  have e3 : ∀ {v n : Nat}, v < 4 → n = 0 → a3 v = nI n := fun {v n} hv hn => by rw [h3 v hv, hn]; rfl
  have M := sl_m0 a ha b hb
  unfold wL_lawOf_91
  refine sl_best (m := 0) hS (by decide) (fun v hv => e0 hv (M v hv).1) (fun v hv => e3 hv (M v hv).2.1) (fun b4 b5 b6 b7 b8 b9 => br_t hz ?_)
  refine sl_with (m := 1) hS (by decide) ha hb hab (fun v hv => e0 hv (M v hv).2.2.1) h3 (fun v hv => (M v hv).2.2.2.2.2.2.1) (fun b4 b5 b6 b7 b8 b9 => br_t hp ?_)
  refine sl_with (m := 2) hS (by decide) hb ha (fun e => hab e.symm) (fun v hv => e0 hv (M v hv).2.2.2.1) h3 (fun v hv => (M v hv).2.2.2.2.2.2.2.1) (fun b4 b5 b6 b7 b8 b9 => br_t hq ?_)
  refine sl_without (m := 3) hS (by decide) ha hb hab h2 (fun v hv => e3 hv (M v hv).2.2.2.2.1) (fun v hv => (M v hv).2.2.2.2.2.2.2.2.1) (fun b4 b5 b6 b7 b8 b9 => br_t hq ?_)
  refine sl_edge ha hb hab (h2 b hb) (h3 b hb) (fun r c2 c3 g1 g2 g3 g4 => ?_)
  have k3 : ∀ v, v < 4 → c3 v = 0 := fun v hv => by
    by_cases e : v = b
    · rw [e, g4]
    · rw [g3 v e]
      exact h3 v hv
  have k2 : ∀ v, v < 4 → c2 v = nI (sl_F 3 a b v) := fun v hv => by
    rw [← (M v hv).2.2.2.2.2.2.2.2.1]
    by_cases e : v = b
    · rw [e, g2, if_pos rfl]
    · rw [g1 v e, if_neg e]
      exact h2 v hv
  refine sl_best (m := 3) hS (by decide) k2 (fun v hv => by rw [k3 v hv, (M v hv).2.2.2.2.1]; rfl) (fun b4 b5 b6 b7 b8 b9 => br_t hq ?_)
  exact sl_with (m := 4) hS (by decide) ha hb hab (fun v hv => by rw [k2 v hv, (M v hv).2.2.2.2.2.1]) k3 (fun v hv => (M v hv).2.2.2.2.2.2.2.2.2) (fun b4 b5 b6 b7 b8 b9 => br_t rfl H)
theorem sl_a1 {a b k s1 s2 : Nat} {x y p q : Int32} (ha : a < 4) (hb : b < 4) (hab : a ≠ b) (h1 : s1 = 2 ^ a) (h2 : s2 = 2 ^ b) (hp : sl_val x y (2 + k) = p) (hq : sl_val x y (3 - k) = q) :
    ∀ v, v < 4 → ∀ s, s < 16 → upd (upd (fun _ => 0) (b * 16 + s1) p) (a * 16 + s2) q (v * 16 + s) = sl_val x y (sl_sT a b k v s) := by
  intro v hv s hs
  have l1 : s1 < 16 := by rw [h1]; exact sl_p16 a ha
  have l2 : s2 < 16 := by rw [h2]; exact sl_p16 b hb
  unfold sl_sT
  rw [← h1, ← h2]
  by_cases e1 : v = b ∧ s = s1
  · rw [if_pos e1, e1.1, e1.2, pk_un (show b * 16 + s1 ≠ a * 16 + s2 by omega), pk_us, hp]
  · rw [if_neg e1]
    by_cases e2 : v = a ∧ s = s2
    · rw [if_pos e2, e2.1, e2.2, pk_us, hq]
    · rw [if_neg e2, pk_un (show v * 16 + s ≠ a * 16 + s2 by omega), pk_un (show v * 16 + s ≠ b * 16 + s1 by omega)]
      rfl
theorem sl_lo {p : Nat} (h : p < 1000) : ¬ nI p < -1000 := by
  intro z
  have h1 := Int32.lt_iff_toInt_lt.mp z
  rw [nI_toInt (by omega), show (-1000 : Int32).toInt = -1000 by decide] at h1
  omega
theorem sl_lawOf {post : Int32 → St0 → Prop} {p0 p1 p2 p3 : Int32} (H : post 1 ()) : wpL_lawOf post 116 1840 () p0 p1 p2 p3 := by
  obtain ⟨a, ha, ea⟩ := pk_andE p0 (m := 3) 2 (by decide)
  obtain ⟨j1, hj1, e1⟩ := pk_andE p1 (m := 2147483647) 31 (by decide)
  obtain ⟨j2, hj2, e2⟩ := pk_andE p2 (m := 2147483647) 31 (by decide)
  obtain ⟨j3, hj3, e3⟩ := pk_andE p3 (m := 2147483647) 31 (by decide)
  have ha4 : a < 4 := ha
  have r1 : nI j1 - nI j1 / 3 * 3 = nI (j1 % 3) := pk_rem (d := 3) hj1 (by decide) (by decide)
  have r2 : nI j2 - nI j2 / 1000 * 1000 = nI (j2 % 1000) := pk_rem (d := 1000) hj2 (by decide) (by decide)
  have r3 : nI j3 - nI j3 / 1000 * 1000 = nI (j3 % 1000) := pk_rem (d := 1000) hj3 (by decide) (by decide)
  have hb4 : (a + 1 + j1 % 3) % 4 < 4 := by omega
  have hab : a ≠ (a + 1 + j1 % 3) % 4 := by omega
  have eb : (nI a + 1 + nI (j1 % 3)) &&& 3 = nI ((a + 1 + j1 % 3) % 4) := by
    rw [nI_1, nI_add]
    exact pk_andN (by omega) 2 (by decide)
  have l2 : j2 % 1000 < 1000 := by omega
  have l3 : j3 % 1000 < 1000 := by omega
  generalize j2 % 1000 = p at r2 l2
  generalize j3 % 1000 = q at r3 l3
  generalize (a + 1 + j1 % 3) % 4 = b at hb4 hab eb
  refine ⟨by decide, by decide, 9, 180, by decide, by decide, ?_⟩
  unfold wpX_init
  refine ⟨by decide, by decide, by decide, by decide, by decide, by decide, by decide, by decide, by decide, by decide, by decide, by decide, by decide, by decide, by decide, by decide, by decide, by decide, ?_⟩
  refine sl_nod (fun b4 b5 b6 _ _ _ => ?_)
  dsimp only
  refine nm_r ea ⟨by decide, nm_r (e' := nI b) (by rw [e1, r1, eb]) ⟨by decide, nm_r (e' := nI p) (by rw [e2, r2]) ⟨by decide, nm_r (e' := nI q) (by rw [e3, r3]) ?_⟩⟩⟩
  rw [sl_pow a ha4, sl_pow b hb4]
  refine sl_score hb4 (sl_p16 a ha4) (sl_pb a ha4 b hb4 hab) (sl_lo l2) (nI_le (b := 1000) (by omega) (by decide)) ?_
  dsimp only
  refine sl_score ha4 (sl_p16 b hb4) (sl_pb b hb4 a ha4 (fun e => hab e.symm)) (sl_lo l3) (nI_le (b := 1000) (by omega) (by decide)) ?_
  dsimp only
  refine pk_le p q (fun hpq => ?_) (fun hqp => ?_)
  · exact sl_91 (k := 0) (x := nI p) (y := nI q) ⟨ha4, hb4, hab, by decide, nI_pos' (by omega), nI_le hpq (by omega), sl_a1 ha4 hb4 hab rfl rfl rfl rfl⟩ rfl rfl rfl (fun _ _ => rfl) (fun _ _ => rfl) H
  · exact sl_91 (k := 1) (x := nI q) (y := nI p) ⟨ha4, hb4, hab, by decide, nI_pos' (by omega), nI_le (by omega) (by omega), sl_a1 ha4 hb4 hab rfl rfl rfl rfl⟩ rfl rfl rfl (fun _ _ => rfl) (fun _ _ => rfl) H
theorem sl_cell {post : Int32 → Prop} {L i : Nat} {xs : Nat → Int32} (hL : L ≤ 4) (hi : i < 4) (H : ∀ z, post z) : wpL_cellAt post L xs () (nI i) :=
  pk_le L i (fun _ => H 0) (fun z => ⟨pk_in i L z, H _⟩)
theorem i_vc (xs : Nat → Int32) (L : Nat) (hL : L ≤ 4) : wpL_law (fun r => r = 1) L xs :=
  sl_cell (i := 0) hL (by decide) (fun r1 => sl_cell (i := 1) hL (by decide) (fun r2 => sl_cell (i := 2) hL (by decide) (fun r3 => sl_cell (i := 3) hL (by decide) (fun r4 =>
    ⟨116, 1840, by decide, by decide, sl_lawOf rfl⟩))))
end
