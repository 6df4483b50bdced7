section
/-! ===== pure rows: a node's bit, indices, quotients ===== -/
/-- the bit of node b -/
def pa_bit (b : Nat) : Int32 := (1 : Int32) <<< (nI b &&& 31)
theorem pa_bitI : ∀ b, b < 8 → ∀ n, n < 8 → (((pa_bit b >>> (nI n &&& 31)) &&& 1 = 1) ↔ n = b) := by decide +kernel
theorem pa_bitV : ∀ b, b < 8 → ∀ n, n < 8 → ((pa_bit b >>> (nI n &&& 31)) &&& 1) = (if n = b then 1 else 0) := by decide +kernel
theorem pa_bit0 : ∀ n, n < 8 → (((0 : Int32) >>> (nI n &&& 31)) &&& 1) = 0 := by decide +kernel
/-- the bits of two nodes meet where the nodes are one -/
theorem pa_bitA : ∀ d, d < 8 → ∀ a, a < 8 → (pa_bit d &&& pa_bit a) = (if a = d then pa_bit a else 0) := by decide +kernel
theorem pa_ix (s n : Nat) : nI s * 8 + nI n = nI (s * 8 + n) := by
  rw [← nI_add, ← pk_mul]
  rfl
theorem pa_ends (a b : Nat) : nI a + 8 * nI b = nI (a + 8 * b) := by
  rw [← nI_add, ← pk_mul]
  rfl
theorem pa_q {v : Int32} {s n : Nat} (hn : n < 8) (hs : s < 28) (h : v = nI (s * 8 + n)) : v / 8 = nI s := by
  subst h
  have e : nI (s * 8 + n) / nI 8 = nI ((s * 8 + n) / 8) := pk_div (by omega) (by omega) (by omega)
  have e2 : (s * 8 + n) / 8 = s := by omega
  rw [e2] at e
  exact e
theorem pa_r {v : Int32} {s n : Nat} (hn : n < 8) (hs : s < 28) (h : v = nI (s * 8 + n)) : v - v / 8 * 8 = nI n := by
  subst h
  have e : nI (s * 8 + n) - nI (s * 8 + n) / nI 8 * nI 8 = nI ((s * 8 + n) % 8) := pk_rem (by omega) (by omega) (by omega)
  have e2 : (s * 8 + n) % 8 = n := by omega
  rw [e2] at e
  exact e
/-! ===== the small methods ===== -/
theorem pa_badLabel {post : Int32 → Prop} {u : St0} {l : Nat} (hl : l < 3) (H : post 0) : wpX_badLabel post u (nI l) :=
  br_f (nI_pos (by omega)) (br_t (nI_le (b := 2) (by omega) (by decide)) H)
theorem pa_badNode {post : Int32 → Prop} {u : St0} {n : Nat} (hn : n < 8) (H : post 0) : wpX_badNode post u (nI n) :=
  br_f (nI_pos (by omega)) (br_t (nI_lt (b := 8) hn (by decide)) H)
section
variable {f1 f2 f3 f4 f5 f6 : Int32} {a1 a2 a3 a4 a5 a6 a7 a8 a9 a10 : Nat → Int32}
/-- an edge is laid where none was -/
theorem pa_edge {post : Int32 → St2 → Prop} {l a b : Nat} {p1 : Int32} (hl : l < 3) (ha : a < 8) (hb : b < 8) (e1 : p1 = nI (a + 8 * b)) (h0 : a1 (l * 8 + a) = 0)
    (H : ∀ (r : Int32) (c1 c2 : Nat → Int32), c1 (l * 8 + a) = pa_bit b → (∀ j, j ≠ l * 8 + a → c1 j = a1 j) → post r (f1, f2, f3, f4, f5, f6, c1, c2, a3, a4, a5, a6, a7, a8, a9, a10)) :
    wpX_edge post (f1, f2, f3, f4, f5, f6, a1, a2, a3, a4, a5, a6, a7, a8, a9, a10) (nI l) p1 1 := by
  subst e1
  unfold wpX_edge
  refine pa_badLabel hl (br_t rfl (br_f (nI_pos (by omega)) (br_t (nI_le (b := 63) (by omega) (by decide)) ?_)))
  have ea : nI (a + 8 * b) &&& 7 = nI a := by
    rw [pk_andN (by omega) 3 (by decide)]
    exact congrArg nI (by omega)
  have eb : nI (a + 8 * b) >>> ((3 : Int32) &&& 31) = nI b := by
    rw [pk_shrN (by omega) _ 3 (by decide)]
    exact congrArg nI (by omega)
  have i1 : vp_in (nI l * 8 + nI a) 24 := by
    rw [pa_ix]
    exact vp_in_nI (by omega) (by decide)
  have i2 : vp_in (nI l * 8 + nI b) 24 := by
    rw [pa_ix]
    exact vp_in_nI (by omega) (by decide)
  refine nm_r ea (nm_r eb ?_)
  refine ⟨i1, nm_e ⟨i1, i1, nm_e ⟨i2, i2, nm_e (br_f (by decide) ⟨i1, i1, nm_e ⟨i2, i2, nm_e (H _ _ _ ?_ ?_)⟩⟩)⟩⟩⟩
  · rw [pa_ix, nI_clamp (by omega), pk_us, pk_us, h0, Int32.zero_and, Int32.zero_or]
    rfl
  · intro j hj
    rw [pa_ix, nI_clamp (by omega), pk_un hj, pk_un hj]
theorem pa_refusal {post : Int32 → Prop} {p h t : Nat} (hp : p < 14) (hh : h < 6) (ht : t ≤ h) (H : post 0) : wpX_refusal post (nI p, f2, f3, nI h, f5, f6, a1, a2, a3, a4, a5, a6, a7, a8, a9, a10) (nI t) := by
  have R : wX_refusal_25 post (nI t) (nI p) f2 f3 (nI h) f5 f6 a1 a2 a3 a4 a5 a6 a7 a8 a9 a10 := br_t (nI_le ht (by omega)) H
  exact br_f (nI_ge (b := 14) hp (by decide)) (br_c (fun _ => br_t (nI_lt (b := 6) hh (by decide)) R) (fun _ => R))
theorem pa_addMove {post : St2 → Prop} {v : Nat} {p0 p1 p2 : Int32} (hv : v < 56) (H : post (f1, f2, nI (v + 1), f4, f5, f6, a1, a2, upd a3 v p0, upd a4 v p1, upd a5 v p2, a6, a7, a8, a9, a10)) :
    wpX_addMove post (f1, f2, nI v, f4, f5, f6, a1, a2, a3, a4, a5, a6, a7, a8, a9, a10) p0 p1 p2 := by
  have i : vp_in (nI v) 56 := vp_in_nI hv (by decide)
  have e : (nI v).toNatClampNeg = v := nI_clamp (by omega)
  unfold wpX_addMove
  dsimp only
  rw [e]
  exact ⟨i, nm_e ⟨i, nm_e ⟨i, nm_e (nm_r (nI_1 v) H)⟩⟩⟩
/-- an expression of one move is pushed -/
theorem pa_label {post : Int32 → St2 → Prop} {p s v h l : Nat} (hl : l < 3) (hp : p < 14) (hv : v < 56) (hh : h < 6)
    (H : post (nI (h + 1)) (nI (p + 1), nI (s + 2), nI (v + 1), nI (h + 1), f5, f6, a1, a2, upd a3 v (nI l), upd a4 v (nI s), upd a5 v (nI (s + 1)), upd a6 h (nI s), upd a7 h (nI (s + 1)), a8, a9, a10)) :
    wpX_label post (nI p, nI s, nI v, nI h, f5, f6, a1, a2, a3, a4, a5, a6, a7, a8, a9, a10) (nI l) := by
  have i : vp_in (nI h) 6 := vp_in_nI hh (by decide)
  have e : (nI h).toNatClampNeg = h := nI_clamp (by omega)
  unfold wpX_label
  refine pa_badLabel hl (br_t rfl ?_)
  unfold wpX_pushMove
  refine pa_refusal (t := 0) hp hh (by omega) (br_t rfl (nm_r (nI_1 p) (pa_addMove hv ?_)))
  rw [← nI_1 s] at H
  dsimp only
  rw [e]
  exact ⟨i, nm_e ⟨i, nm_e (nm_r (nI_add s 2) (nm_r (nI_1 h) H))⟩⟩
/-- the two expressions are joined -/
theorem pa_then {post : Int32 → St2 → Prop} 
    (H : post (nI 1) (nI 3, f2, nI 3, nI 1, f5, f6, a1, a2, upd a3 2 (nI 6), upd a4 2 (a7 0), upd a5 2 (a6 1), a6, upd a7 0 (a7 1), a8, a9, a10)) :
    wpX_then post (nI 2, f2, nI 2, nI 2, f5, f6, a1, a2, a3, a4, a5, a6, a7, a8, a9, a10) := by
  unfold wpX_then
  refine pa_refusal (t := 2) (by omega) (by omega) (by omega) (br_t rfl (nm_r (nI_1 2) (nm_r (nI_pred 1) ?_)))
  rw [nI_pred 0, nI_clamp (show 0 < 2 ^ 31 by omega), nI_clamp (show 1 < 2 ^ 31 by omega)]
  refine ⟨pk_in 0 6 (by omega), pk_in 1 6 (by omega), pa_addMove (by omega) ?_⟩
  dsimp only
  rw [nI_pred 0, nI_clamp (show 0 < 2 ^ 31 by omega), nI_clamp (show 1 < 2 ^ 31 by omega)]
  exact ⟨pk_in 1 6 (by omega), pk_in 0 6 (by omega), nm_e H⟩
/-- a pair that was not yet reached -/
theorem pa_rh {post : St2 → Prop} {s n h : Nat} {p0 p2 : Int32} (e0 : p0 = nI s) (hk : s * 8 + n < 224) (hh : h < 224) (hn : a8 (s * 8 + n) < 0)
    (H : post (f1, f2, f3, f4, nI (h + 1), f6, a1, a2, a3, a4, a5, a6, a7, upd a8 (s * 8 + n) p2, upd a9 h (nI (s * 8 + n)), a10)) :
    wpX_reachHere post (f1, f2, f3, f4, nI h, f6, a1, a2, a3, a4, a5, a6, a7, a8, a9, a10) p0 (nI n) p2 := by
  subst e0
  unfold wpX_reachHere
  refine nm_r (pa_ix s n) ?_
  have i : vp_in (nI (s * 8 + n)) 224 := vp_in_nI hk (by decide)
  rw [nI_clamp (show s * 8 + n < 2 ^ 31 by omega), nI_clamp (show h < 2 ^ 31 by omega)]
  exact ⟨i, br_t hn ⟨i, nm_e ⟨vp_in_nI hh (by decide), nm_e (nm_r (nI_1 h) H)⟩⟩⟩
/-- nothing is kept of an empty set -/
theorem pa_kc0 {post : St2 → Prop} {p0 : Int32} (H : post (f1, f2, f3, f4, f5, f6, a1, a2, a3, a4, a5, a6, a7, a8, a9, a10)) :
    wpX_keepComing post (f1, f2, f3, f4, f5, f6, a1, a2, a3, a4, a5, a6, a7, a8, a9, a10) p0 0 :=
  pk_loop (σ := Unit) (fun n i _ => wX_keepComing_2 post p0 0 f1 f2 f3 f4 f5 n (nI i) f6 a1 a2 a3 a4 a5 a6 a7 a8 a9 a10) (fun _ _ => True) 8 0 () (by omega) trivial
    (fun n _ _ => br_t (by decide) H)
    (fun n i _ hi _ hw => br_f (nI_ge (b := 8) hi (by decide)) (nm_e (br_f (by rw [pa_bit0 i hi]; decide) (nm_r (nI_1 i) (hw () trivial)))))
/-- one node is kept, the first of the next level -/
theorem pa_kc1 {post : St2 → Prop} {s b : Nat} {p0 p1 : Int32} (e0 : p0 = nI s) (e1 : p1 = pa_bit b) (hb : b < 8) (hk : s * 8 + b < 224) (hn : a8 (s * 8 + b) < 0)
    (H : post (f1, f2, f3, f4, f5, nI 1, a1, a2, a3, a4, a5, a6, a7, a8, a9, upd a10 0 (nI (s * 8 + b)))) :
    wpX_keepComing post (f1, f2, f3, f4, f5, nI 0, a1, a2, a3, a4, a5, a6, a7, a8, a9, a10) p0 p1 := by
  subst e0 e1
  refine pk_loop (σ := Int32 × (Nat → Int32)) (fun n i t => wX_keepComing_2 post (nI s) (pa_bit b) f1 f2 f3 f4 f5 n (nI i) t.1 a1 a2 a3 a4 a5 a6 a7 a8 a9 t.2)
    (fun i t => (i ≤ b → t = (nI 0, a10)) ∧ (b < i → t = (nI 1, upd a10 0 (nI (s * 8 + b))))) 8 0 (nI 0, a10) (by omega) ⟨fun _ => rfl, fun z => absurd z (by omega)⟩ ?_ ?_
  · rintro n t ⟨_, h2⟩
    rw [h2 hb]
    exact br_t (by decide) H
  · rintro n i t hi ⟨h1, h2⟩ hw
    refine br_f (nI_ge (b := 8) hi (by decide)) (nm_r (pa_ix s i) ?_)
    by_cases e : i = b
    · subst e
      rw [h1 (Nat.le_refl i)]
      refine br_t ((pa_bitI i hi i hi).mpr rfl) ?_
      rw [nI_clamp (show s * 8 + i < 2 ^ 31 by omega)]
      refine ⟨vp_in_nI hk (by decide), br_f (Int32.not_le.mpr hn) (br_f (show ¬ (224 : Int32) ≤ nI 0 by decide) ?_)⟩
      refine ⟨1, br_t (show nI 0 ≤ (0 : Int32) by decide) (br_t rfl ⟨pk_in 0 224 (by omega), nm_e (nm_r (nI_1 0) (nm_r (nI_1 i) (hw (nI 1, upd a10 0 (nI (s * 8 + i))) ⟨fun z => absurd z (by omega), fun _ => rfl⟩)))⟩)⟩
    · exact br_f (fun z => e ((pa_bitI b hb i hi).mp z)) (nm_r (nI_1 i) (hw t ⟨fun z => h1 (by omega), fun z => h2 (by omega)⟩))
/-- a silent move to a pair that was not yet reached -/
theorem pa_folS {post : St2 → Prop} {v s n h : Nat} {p2 : Int32} (hv : v < 56) (hk : a3 v = nI 6) (ht : a5 v = nI s) (hs : s * 8 + n < 224) (hh : h < 224) (hn : a8 (s * 8 + n) < 0)
    (H : post (f1, f2, f3, f4, nI (h + 1), f6, a1, a2, a3, a4, a5, a6, a7, upd a8 (s * 8 + n) p2, upd a9 h (nI (s * 8 + n)), a10)) :
    wpX_follow post (f1, f2, f3, f4, nI h, f6, a1, a2, a3, a4, a5, a6, a7, a8, a9, a10) (nI v) (nI n) p2 := by
  have e : (nI v).toNatClampNeg = v := nI_clamp (by omega)
  have i : vp_in (nI v) 56 := vp_in_nI hv (by decide)
  refine ⟨i, nm_r (e' := nI 6) (by rw [e]; exact hk) (br_t rfl ⟨i, pa_rh (s := s) (by rw [e]; exact ht) hs hh hn H⟩)⟩
/-- a label's move where no edge leads on -/
theorem pa_fol0 {post : St2 → Prop} {v l n : Nat} {p2 : Int32} (hv : v < 56) (hl : l < 3) (hx : n < 8) (hk : a3 v = nI l) (hz : a1 (l * 8 + n) = 0)
    (H : post (f1, f2, f3, f4, f5, f6, a1, a2, a3, a4, a5, a6, a7, a8, a9, a10)) :
    wpX_follow post (f1, f2, f3, f4, f5, f6, a1, a2, a3, a4, a5, a6, a7, a8, a9, a10) (nI v) (nI n) p2 := by
  have e : (nI v).toNatClampNeg = v := nI_clamp (by omega)
  have i : vp_in (nI v) 56 := vp_in_nI hv (by decide)
  have g : nI l ≠ 7 + nI n := by
    rw [show 7 + nI n = nI (7 + n) from nI_add 7 n]
    exact fun z => absurd ((nI_eq (by omega) (by omega)).mp z) (by omega)
  refine ⟨i, nm_r (e' := nI l) (by rw [e]; exact hk) (br_f (fun z => absurd ((nI_eq (b := 6) (by omega) (by omega)).mp z) (by omega)) (br_f g (br_f (nI_ge (b := 3) hl (by decide)) ⟨i, ?_, ?_⟩)))⟩
  · rw [pa_ix]
    exact vp_in_nI (by omega) (by decide)
  · rw [pa_ix, nI_clamp (show l * 8 + n < 2 ^ 31 by omega), hz]
    exact pa_kc0 H
/-- a label's move over one edge -/
theorem pa_fol1 {post : St2 → Prop} {v l n s b : Nat} {p2 : Int32} (hv : v < 56) (hl : l < 3) (hx : n < 8) (hk : a3 v = nI l) (ht : a5 v = nI s) (hz : a1 (l * 8 + n) = pa_bit b) (hb : b < 8) (hs : s * 8 + b < 224) (hn : a8 (s * 8 + b) < 0)
    (H : post (f1, f2, f3, f4, f5, nI 1, a1, a2, a3, a4, a5, a6, a7, a8, a9, upd a10 0 (nI (s * 8 + b)))) :
    wpX_follow post (f1, f2, f3, f4, f5, nI 0, a1, a2, a3, a4, a5, a6, a7, a8, a9, a10) (nI v) (nI n) p2 := by
  have e : (nI v).toNatClampNeg = v := nI_clamp (by omega)
  have i : vp_in (nI v) 56 := vp_in_nI hv (by decide)
  have g : nI l ≠ 7 + nI n := by
    rw [show 7 + nI n = nI (7 + n) from nI_add 7 n]
    exact fun z => absurd ((nI_eq (by omega) (by omega)).mp z) (by omega)
  refine ⟨i, nm_r (e' := nI l) (by rw [e]; exact hk) (br_f (fun z => absurd ((nI_eq (b := 6) (by omega) (by omega)).mp z) (by omega)) (br_f g (br_f (nI_ge (b := 3) hl (by decide)) ⟨i, ?_, ?_⟩)))⟩
  · rw [pa_ix]
    exact vp_in_nI (by omega) (by decide)
  · rw [pa_ix, nI_clamp (show l * 8 + n < 2 ^ 31 by omega)]
    exact pa_kc1 (s := s) (b := b) (by rw [e]; exact ht) hz hb hs hn H
end
end
section
/-! ===== the picture: two edges, a -l-> b -m-> d, and the expression l m ===== -/
def pa_P (a b d l m : Nat) (F K R T S E : Nat → Int32) : Prop :=
  (a < 8 ∧ b < 8 ∧ d < 8 ∧ l < 3 ∧ m < 3) ∧ (K 0 = nI l ∧ K 1 = nI m ∧ K 2 = nI 6) ∧ (R 0 = nI 0 ∧ R 1 = nI 2 ∧ R 2 = nI 1) ∧ (T 0 = nI 1 ∧ T 1 = nI 3 ∧ T 2 = nI 2) ∧
  S 0 = nI 0 ∧ E 0 = nI 3 ∧ F (l * 8 + a) = pa_bit b ∧ (∀ x, x < 8 → x ≠ a → F (l * 8 + x) = 0) ∧ F (m * 8 + b) = pa_bit d
section
variable {f1 f2 f3 f4 f5 f6 : Int32} {a1 a2 a3 a4 a5 a6 a7 a8 a9 a10 : Nat → Int32} {post : St2 → Prop}
/-! ===== a level's inner loop: the three moves ===== -/
section
variable {J : Int32 → Int32 → Int32 → Int32 → Int32 → Int32 → Int32 → (Nat → Int32) → (Nat → Int32) → (Nat → Int32) → (Nat → Int32) → (Nat → Int32) → (Nat → Int32) → (Nat → Int32) → (Nat → Int32) → (Nat → Int32) → (Nat → Int32) → Prop} {x1 x2 x3 x4 : Int32} {n : Nat}
/-- a move from another state -/
theorem pa_skip {i k s : Nat} (hi : i < 3) (hf : a4 i = nI k) (hk : k < 8) (hs : s < 8) (hne : k ≠ s)
    (hw : wX_workLevel_39 post J x1 x2 (nI s) x4 n (nI (i + 1)) f1 f2 (nI 3) f4 f5 f6 a1 a2 a3 a4 a5 a6 a7 a8 a9 a10) :
    wX_workLevel_39 post J x1 x2 (nI s) x4 (n + 1) (nI i) f1 f2 (nI 3) f4 f5 f6 a1 a2 a3 a4 a5 a6 a7 a8 a9 a10 := by
  refine br_f (nI_ge hi (by decide)) ⟨vp_in_nI (by omega) (by decide), br_f ?_ (nm_r (nI_1 i) hw)⟩
  rw [nI_clamp (by omega), hf]
  exact fun z => absurd ((nI_eq (by omega) (by omega)).mp z) hne
/-- behind the last move -/
theorem pa_last {i : Nat} (H : J (nI (i + 1)) f1 f2 (nI 3) f4 f5 f6 a1 a2 a3 a4 a5 a6 a7 a8 a9 a10) :
    wX_workLevel_39 post J x1 (nI i) x3 x4 (n + 1) (nI 3) f1 f2 (nI 3) f4 f5 f6 a1 a2 a3 a4 a5 a6 a7 a8 a9 a10 :=
  br_t (nI_le (Nat.le_refl 3) (by decide)) (nm_r (nI_1 i) H)
/-- a label's move from this state, no edge -/
theorem pa_hit0 {i s l y : Nat} (hi : i < 3) (hf : a4 i = nI s) (hl : l < 3) (hx : y < 8) (hk : a3 i = nI l) (hz : a1 (l * 8 + y) = 0)
    (hw : wX_workLevel_39 post J x1 x2 (nI s) (nI y) n (nI (i + 1)) f1 f2 (nI 3) f4 f5 f6 a1 a2 a3 a4 a5 a6 a7 a8 a9 a10) :
    wX_workLevel_39 post J x1 x2 (nI s) (nI y) (n + 1) (nI i) f1 f2 (nI 3) f4 f5 f6 a1 a2 a3 a4 a5 a6 a7 a8 a9 a10 :=
  br_f (nI_ge hi (by decide)) ⟨vp_in_nI (by omega) (by decide), br_t (by rw [nI_clamp (by omega)]; exact hf) (pa_fol0 (by omega) hl hx hk hz (nm_r (nI_1 i) hw))⟩
/-- a label's move from this state, one edge -/
theorem pa_hit1 {i s l y t b : Nat} (hi : i < 3) (hf : a4 i = nI s) (hl : l < 3) (hx : y < 8) (hk : a3 i = nI l) (ht : a5 i = nI t) (hz : a1 (l * 8 + y) = pa_bit b) (hb : b < 8) (hs : t * 8 + b < 224) (hn : a8 (t * 8 + b) < 0)
    (hw : wX_workLevel_39 post J x1 x2 (nI s) (nI y) n (nI (i + 1)) f1 f2 (nI 3) f4 f5 (nI 1) a1 a2 a3 a4 a5 a6 a7 a8 a9 (upd a10 0 (nI (t * 8 + b)))) :
    wX_workLevel_39 post J x1 x2 (nI s) (nI y) (n + 1) (nI i) f1 f2 (nI 3) f4 f5 (nI 0) a1 a2 a3 a4 a5 a6 a7 a8 a9 a10 :=
  br_f (nI_ge hi (by decide)) ⟨vp_in_nI (by omega) (by decide), br_t (by rw [nI_clamp (by omega)]; exact hf) (pa_fol1 (by omega) hl hx hk ht hz hb hs hn (nm_r (nI_1 i) hw))⟩
/-- a silent move from this state -/
theorem pa_hitS {i s y t h : Nat} (hi : i < 3) (hf : a4 i = nI s) (hk : a3 i = nI 6) (ht : a5 i = nI t) (hs : t * 8 + y < 224) (hh : h < 224) (hn : a8 (t * 8 + y) < 0)
    (hw : wX_workLevel_39 post J x1 x2 (nI s) (nI y) n (nI (i + 1)) f1 f2 (nI 3) f4 (nI (h + 1)) f6 a1 a2 a3 a4 a5 a6 a7 (upd a8 (t * 8 + y) x1) (upd a9 h (nI (t * 8 + y))) a10) :
    wX_workLevel_39 post J x1 x2 (nI s) (nI y) (n + 1) (nI i) f1 f2 (nI 3) f4 (nI h) f6 a1 a2 a3 a4 a5 a6 a7 a8 a9 a10 :=
  br_f (nI_ge hi (by decide)) ⟨vp_in_nI (by omega) (by decide), br_t (by rw [nI_clamp (by omega)]; exact hf) (pa_folS (by omega) hk ht hs hh hn (nm_r (nI_1 i) hw))⟩
end
/-! ===== a level's outer loop ===== -/
theorem pa_l7 {x1 : Int32} {i s y h k : Nat} (hi : i < h) (hh : h ≤ 224) (hy : y < 8) (hs : s < 28) (h9 : a9 i = nI (s * 8 + y))
    (hw : ∃ fu, wX_workLevel_39 post (wX_workLevel_7 post x1 k) x1 (nI i) (nI s) (nI y) fu (nI 0) f1 f2 f3 f4 (nI h) f6 a1 a2 a3 a4 a5 a6 a7 a8 a9 a10) :
    wX_workLevel_7 post x1 (k + 1) (nI i) f1 f2 f3 f4 (nI h) f6 a1 a2 a3 a4 a5 a6 a7 a8 a9 a10 := by
  have e : (nI i).toNatClampNeg = i := nI_clamp (by omega)
  have i' : vp_in (nI i) 224 := vp_in_nI (by omega) (by decide)
  exact br_f (nI_ge hi (by omega)) ⟨i', by decide, nm_r (pa_q hy hs (by rw [e]; exact h9)) ⟨i', by decide, nm_r (pa_r hy hs (by rw [e]; exact h9)) hw⟩⟩
theorem pa_l7e {x1 : Int32} {h k : Nat} (hh : h ≤ 224) (H : post (f1, f2, f3, f4, nI h, f6, a1, a2, a3, a4, a5, a6, a7, a8, a9, a10)) :
    wX_workLevel_7 post x1 (k + 1) (nI h) f1 f2 f3 f4 (nI h) f6 a1 a2 a3 a4 a5 a6 a7 a8 a9 a10 :=
  br_t (nI_le (Nat.le_refl h) (by omega)) H
/-! ===== the levels of the picture ===== -/
section
variable {a b d l m x : Nat} {F B K R T S E : Nat → Int32} {x1 : Int32}
/-- level 0 from another node than a -/
theorem pa_w0n (p : pa_P a b d l m F K R T S E) (hx : x < 8) (hne : x ≠ a) (h9 : a9 0 = nI (0 * 8 + x)) (H : post (f1, f2, nI 3, f4, nI 1, nI 0, F, B, K, R, T, S, E, a8, a9, a10)) :
    wpX_workLevel post (f1, f2, nI 3, f4, nI 1, f6, F, B, K, R, T, S, E, a8, a9, a10) x1 := by
  obtain ⟨⟨ha, hb, hd, hl, hm⟩, ⟨k0, k1, k2⟩, ⟨r0, r1, r2⟩, ⟨t0, t1, t2⟩, s0, e0, g1, g2, g3⟩ := p
  refine ⟨2, pa_l7 (i := 0) (by omega) (by omega) hx (by omega) h9 ⟨4, ?_⟩⟩
  exact pa_hit0 (by omega) r0 hl hx k0 (g2 x hx hne) (pa_skip (by omega) r1 (by omega) (by omega) (by omega) (pa_skip (by omega) r2 (by omega) (by omega) (by omega) (pa_last (pa_l7e (by omega) H))))
/-- level 0 from a -/
theorem pa_w0y (p : pa_P a b d l m F K R T S E) (h9 : a9 0 = nI (0 * 8 + a)) (hn : a8 (1 * 8 + b) < 0) (H : post (f1, f2, nI 3, f4, nI 1, nI 1, F, B, K, R, T, S, E, a8, a9, upd a10 0 (nI (1 * 8 + b)))) :
    wpX_workLevel post (f1, f2, nI 3, f4, nI 1, f6, F, B, K, R, T, S, E, a8, a9, a10) x1 := by
  obtain ⟨⟨ha, hb, hd, hl, hm⟩, ⟨k0, k1, k2⟩, ⟨r0, r1, r2⟩, ⟨t0, t1, t2⟩, s0, e0, g1, g2, g3⟩ := p
  refine ⟨2, pa_l7 (i := 0) (by omega) (by omega) ha (by omega) h9 ⟨4, ?_⟩⟩
  exact pa_hit1 (by omega) r0 hl ha k0 t0 g1 hb (by omega) hn (pa_skip (by omega) r1 (by omega) (by omega) (by omega) (pa_skip (by omega) r2 (by omega) (by omega) (by omega) (pa_last (pa_l7e (by omega) H))))
/-- level 1: the silent move, and on its level the second label -/
theorem pa_w1 (p : pa_P a b d l m F K R T S E) (h9 : a9 0 = nI (1 * 8 + b)) (n2 : a8 (2 * 8 + b) < 0) (n3 : a8 (3 * 8 + d) < 0)
    (H : post (f1, f2, nI 3, f4, nI 2, nI 1, F, B, K, R, T, S, E, upd a8 (2 * 8 + b) x1, upd a9 1 (nI (2 * 8 + b)), upd a10 0 (nI (3 * 8 + d)))) :
    wpX_workLevel post (f1, f2, nI 3, f4, nI 1, f6, F, B, K, R, T, S, E, a8, a9, a10) x1 := by
  obtain ⟨⟨ha, hb, hd, hl, hm⟩, ⟨k0, k1, k2⟩, ⟨r0, r1, r2⟩, ⟨t0, t1, t2⟩, s0, e0, g1, g2, g3⟩ := p
  refine ⟨3, pa_l7 (i := 0) (by omega) (by omega) hb (by omega) h9 ⟨4, ?_⟩⟩
  refine pa_skip (by omega) r0 (by omega) (by omega) (by omega) (pa_skip (by omega) r1 (by omega) (by omega) (by omega) (pa_hitS (by omega) r2 k2 t2 (by omega) (by omega) n2 (pa_last ?_)))
  refine pa_l7 (s := 2) (y := b) (by omega) (by omega) hb (by omega) pk_us ⟨4, ?_⟩
  refine pa_skip (by omega) r0 (by omega) (by omega) (by omega) (pa_hit1 (by omega) r1 hm hb k1 t1 g3 hd (by omega) ?_ (pa_skip (by omega) r2 (by omega) (by omega) (by omega) (pa_last (pa_l7e (by omega) H))))
  rw [pk_un (by omega)]
  exact n3
/-- level 2: no move leads on -/
theorem pa_w2 (p : pa_P a b d l m F K R T S E) (h9 : a9 0 = nI (3 * 8 + d)) (H : post (f1, f2, nI 3, f4, nI 1, nI 0, F, B, K, R, T, S, E, a8, a9, a10)) :
    wpX_workLevel post (f1, f2, nI 3, f4, nI 1, f6, F, B, K, R, T, S, E, a8, a9, a10) x1 := by
  obtain ⟨⟨ha, hb, hd, hl, hm⟩, ⟨k0, k1, k2⟩, ⟨r0, r1, r2⟩, ⟨t0, t1, t2⟩, s0, e0, g1, g2, g3⟩ := p
  refine ⟨2, pa_l7 (i := 0) (by omega) (by omega) hd (by omega) h9 ⟨4, ?_⟩⟩
  exact pa_skip (by omega) r0 (by omega) (by omega) (by omega) (pa_skip (by omega) r1 (by omega) (by omega) (by omega) (pa_skip (by omega) r2 (by omega) (by omega) (by omega) (pa_last (pa_l7e (by omega) H))))
end
/-! ===== the search ===== -/
section
variable {J : Int32 → Int32 → Int32 → Int32 → Int32 → Int32 → Int32 → (Nat → Int32) → (Nat → Int32) → (Nat → Int32) → (Nat → Int32) → (Nat → Int32) → (Nat → Int32) → (Nat → Int32) → (Nat → Int32) → (Nat → Int32) → (Nat → Int32) → Prop}
/-- nothing comes -/
theorem pa_s80n {t : Nat} (H : J (nI (t + 1)) f1 f2 f3 f4 (nI 0) (nI 0) a1 a2 a3 a4 a5 a6 a7 a8 a9 a10) :
    ∃ fu, wX_search_80 post J (nI t) fu 0 f1 f2 f3 f4 0 (nI 0) a1 a2 a3 a4 a5 a6 a7 a8 a9 a10 :=
  ⟨1, br_t (by decide) (nm_r (nI_1 t) H)⟩
/-- one pair comes -/
theorem pa_s80y {t s y : Nat} (h10 : a10 0 = nI (s * 8 + y)) (hy : y < 8) (hs : s < 28) (hn : a8 (s * 8 + y) < 0)
    (H : J (nI (t + 1)) f1 f2 f3 f4 (nI 1) (nI 1) a1 a2 a3 a4 a5 a6 a7 (upd a8 (s * 8 + y) (nI (t + 1))) (upd a9 0 (nI (s * 8 + y))) a10) :
    ∃ fu, wX_search_80 post J (nI t) fu 0 f1 f2 f3 f4 0 (nI 1) a1 a2 a3 a4 a5 a6 a7 a8 a9 a10 := by
  refine ⟨2, br_f (by decide) ⟨pk_in 0 224 (by omega), by decide, pk_in 0 224 (by omega), by decide, ?_⟩⟩
  rw [sb_cl0, pa_r hy hs h10, pa_q hy hs h10, nI_1 t]
  exact pa_rh (h := 0) rfl (by omega) (by omega) hn (nm_r (nI_1 0) (br_t (by decide) (nm_r (nI_1 t) H)))
end
section
variable {a b d l m x : Nat} {F B K R T S E : Nat → Int32}
theorem pa_s54n (p : pa_P a b d l m F K R T S E) (hx : x < 8) (hne : x ≠ a) (h9 : a9 0 = nI (0 * 8 + x)) (H : post (f1, f2, nI 3, f4, nI 0, nI 0, F, B, K, R, T, S, E, a8, a9, a10)) :
    ∃ fu, wX_search_54 post fu 0 f1 f2 (nI 3) f4 (nI 1) f6 F B K R T S E a8 a9 a10 :=
  ⟨2, br_f (by decide) (br_f (by decide) (pa_w0n p hx hne h9 (pa_s80n (t := 0) (br_f (by decide) (br_t (by decide) H)))))⟩
theorem pa_s54y (p : pa_P a b d l m F K R T S E) (h9 : a9 0 = nI (0 * 8 + a)) (n1 : a8 (1 * 8 + b) < 0) (n2 : a8 (2 * 8 + b) < 0) (n3 : a8 (3 * 8 + d) < 0)
    (H : ∀ c9 c10, post (f1, f2, nI 3, f4, nI 0, nI 0, F, B, K, R, T, S, E, upd (upd (upd a8 (1 * 8 + b) (nI 1)) (2 * 8 + b) (nI 1)) (3 * 8 + d) (nI 2), c9, c10)) :
    ∃ fu, wX_search_54 post fu 0 f1 f2 (nI 3) f4 (nI 1) f6 F B K R T S E a8 a9 a10 := by
  have hb : b < 8 := p.1.2.1
  have hd : d < 8 := p.1.2.2.1
  refine ⟨4, br_f (by decide) (br_f (by decide) (pa_w0y p h9 n1 ?_))⟩
  refine pa_s80y (t := 0) (s := 1) (y := b) pk_us hb (by omega) n1 ?_
  refine br_f (by decide) (br_f (by decide) (pa_w1 p pk_us (by rw [pk_un (by omega)]; exact n2) (by rw [pk_un (by omega)]; exact n3) ?_))
  refine pa_s80y (t := 1) (s := 3) (y := d) pk_us hd (by omega) (by rw [pk_un (by omega), pk_un (by omega)]; exact n3) ?_
  refine br_f (by decide) (br_f (by decide) (pa_w2 p pk_us ?_))
  exact pa_s80n (t := 2) (br_f (by decide) (br_t (by decide) (H _ _)))
/-- what a search from x leaves: the length 2 at the pair (3, d) if x is a, none at the last state else -/
theorem pa_search (p : pa_P a b d l m F K R T S E) (hx : x < 8)
    (H : ∀ c8 c9 c10, (∀ j, j < 8 → c8 (3 * 8 + j) = if x = a ∧ j = d then nI 2 else -1) → post (f1, f2, nI 3, nI 1, nI 0, nI 0, F, B, K, R, T, S, E, c8, c9, c10)) :
    wpX_search post (f1, f2, nI 3, nI 1, f5, f6, F, B, K, R, T, S, E, a8, a9, a10) (nI x) := by
  have ha : a < 8 := p.1.1
  have hb : b < 8 := p.1.2.1
  have hd : d < 8 := p.1.2.2.1
  have hS : S 0 = nI 0 := p.2.2.2.2.1
  refine pk_loop (fun n i t => wX_search_2 post (nI x) f1 f2 (nI 3) (nI 1) f5 f6 n (nI i) F B K R T S E t a9 a10) (fun i t => ∀ j, j < i → t j = -1) 224 0 a8 (by omega) (fun j hj => absurd hj (by omega)) ?_ ?_
  · intro n t ht
    have hm : (-1 : Int32) < 0 := by decide
    refine br_t (by decide) (br_f (by decide) ?_)
    rw [nI_pred 0, nI_clamp (show 0 < 2 ^ 31 by omega)]
    refine ⟨pk_in 0 6 (by omega), pa_rh (s := 0) (h := 0) hS (by omega) (by omega) (by rw [ht _ (by omega)]; exact hm) ?_⟩
    by_cases e : x = a
    · subst e
      refine pa_s54y p pk_us (by rw [pk_un (by omega), ht _ (by omega)]; exact hm) (by rw [pk_un (by omega), ht _ (by omega)]; exact hm) (by rw [pk_un (by omega), ht _ (by omega)]; exact hm) (fun c9 c10 => H _ _ _ (fun j hj => ?_))
      by_cases ej : j = d
      · rw [if_pos ⟨rfl, ej⟩, ej, pk_us]
      · rw [if_neg (fun z => ej z.2), pk_un (by omega), pk_un (by omega), pk_un (by omega), pk_un (by omega), ht _ (by omega)]
    · refine pa_s54n p hx e pk_us (H _ _ _ (fun j hj => ?_))
      rw [if_neg (fun z => e z.1), pk_un (by omega), ht _ (by omega)]
  · intro n i t hi ht hw
    refine br_f (nI_ge hi (by decide)) ⟨vp_in_nI hi (by decide), nm_e (nm_r (nI_1 i) (hw _ (fun j hj => ?_)))⟩
    rw [nI_clamp (by omega)]
    by_cases e : j = i
    · rw [e, pk_us]
    · rw [pk_un e]
      exact ht j (by omega)
end
end
end
section
/-! ===== the questions: one lemma a method, over any state that matches the picture ===== -/
section
variable {a b d l m x : Nat} {F B K R T S E : Nat → Int32} {f1 f2 f3 f5 f6 : Int32} {a1 a2 a3 a4 a5 a6 a8 a9 a10 : Nat → Int32}
theorem pa_len {post : Int32 → Prop} {j : Nat} (hE : E 0 = nI 3) (hj : j < 8) (H : post (a8 (3 * 8 + j))) :
    wpX_lengthTo post (f1, f2, f3, nI 1, f5, f6, a1, a2, a3, a4, a5, a6, E, a8, a9, a10) (nI j) := by
  unfold wpX_lengthTo
  dsimp only
  rw [nI_pred 0, nI_clamp (show 0 < 2 ^ 31 by omega), hE, pa_ix, nI_clamp (show 3 * 8 + j < 2 ^ 31 by omega)]
  exact br_f (by decide) ⟨pk_in 0 6 (by omega), vp_in_nI (by omega) (by decide), H⟩
/-- the set that is reached from x -/
def pa_set (a d x : Nat) : Int32 := if x = a then pa_bit d else 0
theorem pa_reachFrom {post : Int32 → St2 → Prop} (p : pa_P a b d l m F K R T S E) (hx : x < 8)
    (H : ∀ c8 c9 c10, post (pa_set a d x) (f1, f2, nI 3, nI 1, nI 0, nI 0, F, B, K, R, T, S, E, c8, c9, c10)) :
    wpX_reachFrom post (f1, f2, nI 3, nI 1, f5, f6, F, B, K, R, T, S, E, a8, a9, a10) (nI x) := by
  have hd : d < 8 := p.1.2.2.1
  have hE : E 0 = nI 3 := p.2.2.2.2.2.1
  unfold wpX_reachFrom
  refine pa_search p hx (fun c8 c9 c10 h8 => ?_)
  refine pk_loop (σ := Int32) (fun n i t => wX_reachFrom_9 post f1 f2 (nI 3) (nI 1) (nI 0) (nI 0) F B K R T S E c8 c9 c10 n t (nI i)) (fun i t => t = if x = a ∧ d < i then pa_bit d else 0) 8 0 0 (by omega) (by rw [if_neg (fun z => absurd z.2 (by omega))]) ?_ ?_
  · intro n t ht
    have e : t = pa_set a d x := by
      rw [ht]
      unfold pa_set
      by_cases e : x = a
      · rw [if_pos ⟨e, hd⟩, if_pos e]
      · rw [if_neg (fun z => e z.1), if_neg e]
    rw [e]
    exact br_t (by decide) (H c8 c9 c10)
  · intro n i t hi ht hw
    refine br_f (nI_ge (b := 8) hi (by decide)) (pa_len hE hi ?_)
    rw [h8 i hi]
    by_cases e : x = a ∧ i = d
    · rw [if_pos e]
      refine br_f (by decide) (nm_e (nm_r (nI_1 i) (hw _ ?_)))
      rw [ht, if_neg (fun z => absurd z.2 (by omega)), if_pos ⟨e.1, by omega⟩, Int32.zero_or, e.2]
      rfl
    · rw [if_neg e]
      refine br_t (by decide) (nm_r (nI_1 i) (hw _ ?_))
      rw [ht]
      by_cases g : x = a ∧ d < i
      · rw [if_pos g, if_pos ⟨g.1, by omega⟩]
      · rw [if_neg g, if_neg (fun z => g ⟨z.1, by omega⟩)]
theorem pa_reach {post : Int32 → St2 → Prop} (p : pa_P a b d l m F K R T S E)
    (H : ∀ c8 c9 c10, post (pa_bit d) (f1, f2, nI 3, nI 1, nI 0, nI 0, F, B, K, R, T, S, E, c8, c9, c10)) :
    wpX_reach post (f1, f2, nI 3, nI 1, f5, f6, F, B, K, R, T, S, E, a8, a9, a10) (nI a) := by
  have ha : a < 8 := p.1.1
  unfold wpX_reach
  refine pa_badNode ha (br_t rfl (pa_reachFrom p ha (fun c8 c9 c10 => ?_)))
  unfold pa_set
  rw [if_pos rfl]
  exact H c8 c9 c10
theorem pa_shortest {post : Int32 → St2 → Prop} (p : pa_P a b d l m F K R T S E)
    (H : ∀ c8 c9 c10, post (nI 2) (f1, f2, nI 3, nI 1, nI 0, nI 0, F, B, K, R, T, S, E, c8, c9, c10)) :
    wpX_shortest post (f1, f2, nI 3, nI 1, f5, f6, F, B, K, R, T, S, E, a8, a9, a10) (nI a) (nI d) := by
  have ha : a < 8 := p.1.1
  have hd : d < 8 := p.1.2.2.1
  have hE : E 0 = nI 3 := p.2.2.2.2.2.1
  unfold wpX_shortest
  refine pa_badNode ha (br_t rfl (pa_badNode hd (br_t rfl (pa_search p ha (fun c8 c9 c10 h8 => pa_len hE hd ?_)))))
  rw [h8 d hd, if_pos ⟨rfl, rfl⟩]
  exact br_t (by decide) (H c8 c9 c10)
/-- one pair in all -/
theorem pa_pairs {post : Int32 → St2 → Prop} (p : pa_P a b d l m F K R T S E)
    (H : ∀ g5 g6 c8 c9 c10, post (nI 1) (f1, f2, nI 3, nI 1, g5, g6, F, B, K, R, T, S, E, c8, c9, c10)) :
    wpX_pairs post (f1, f2, nI 3, nI 1, f5, f6, F, B, K, R, T, S, E, a8, a9, a10) := by
  have ha : a < 8 := p.1.1
  have hd : d < 8 := p.1.2.2.1
  refine pk_loop (σ := Int32 × Int32 × Int32 × (Nat → Int32) × (Nat → Int32) × (Nat → Int32))
    (fun n i t => wX_pairs_4 post n t.1 (nI i) f1 f2 (nI 3) (nI 1) t.2.1 t.2.2.1 F B K R T S E t.2.2.2.1 t.2.2.2.2.1 t.2.2.2.2.2)
    (fun i t => t.1 = if a < i then nI 1 else nI 0) 8 0 (nI 0, f5, f6, a8, a9, a10) (by omega) (by rw [if_neg (by omega)]) ?_ ?_
  · rintro n ⟨t, g5, g6, c8, c9, c10⟩ ht
    have ht' : t = nI 1 := by
      have ht : t = if a < 8 then nI 1 else nI 0 := ht
      rw [ht, if_pos ha]
    subst ht'
    exact br_t (by decide) (H _ _ _ _ _)
  · rintro n i ⟨t, g5, g6, c8, c9, c10⟩ hi ht hw
    have ht : t = if a < i then nI 1 else nI 0 := ht
    refine br_f (nI_ge (b := 8) hi (by decide)) (pa_reachFrom p hi (fun e8 e9 e10 => ?_))
    refine pk_loop (σ := Int32) (fun k j t' => wX_pairs_19 post (wX_pairs_4 post n) (nI i) (pa_set a d i) f1 f2 (nI 3) (nI 1) (nI 0) (nI 0) F B K R T S E e8 e9 e10 k t' (nI j))
      (fun j t' => t' = if a < i ∨ (i = a ∧ d < j) then nI 1 else nI 0) 8 0 t (by omega) ?_ ?_ ?_
    · rw [ht]
      by_cases g : a < i
      · rw [if_pos g, if_pos (Or.inl g)]
      · rw [if_neg g, if_neg (by omega)]
    · intro k t' ht'
      refine br_t (by decide) (nm_r (nI_1 i) (hw (t', nI 0, nI 0, e8, e9, e10) ?_))
      show t' = if a < i + 1 then nI 1 else nI 0
      rw [ht']
      by_cases g : a < i + 1
      · rw [if_pos g, if_pos (by omega)]
      · rw [if_neg g, if_neg (by omega)]
    · intro k j t' hj ht' hw'
      refine br_f (nI_ge (b := 8) hj (by decide)) (nm_e (nm_r (nI_1 j) (hw' _ ?_)))
      rw [ht']
      unfold pa_set
      by_cases g : i = a
      · rw [if_pos g, pa_bitV d hd j hj]
        by_cases q : j = d
        · rw [if_pos q, if_neg (by omega), if_pos (by omega)]
          rfl
        · rw [if_neg q, Int32.add_zero]
          by_cases r : d < j
          · rw [if_pos (by omega), if_pos (by omega)]
          · rw [if_neg (by omega), if_neg (by omega)]
      · rw [if_neg g, pa_bit0 j hj, Int32.add_zero]
        by_cases r : a < i
        · rw [if_pos (by omega), if_pos (by omega)]
        · rw [if_neg (by omega), if_neg (by omega)]
/-- the most so far, at node i of the outer loop and node j of the inner one -/
def pa_most (a d i j : Nat) : Int32 := if a < i ∨ (i = a ∧ d < j) then nI 2 else if i = 0 ∧ j = 0 then -5 else -1
theorem pa_widest {post : Int32 → St2 → Prop} (p : pa_P a b d l m F K R T S E)
    (H : ∀ g5 g6 c8 c9 c10, post (nI 2) (f1, f2, nI 3, nI 1, g5, g6, F, B, K, R, T, S, E, c8, c9, c10)) :
    wpX_widest post (f1, f2, nI 3, nI 1, f5, f6, F, B, K, R, T, S, E, a8, a9, a10) := by
  have ha : a < 8 := p.1.1
  have hd : d < 8 := p.1.2.2.1
  have hE : E 0 = nI 3 := p.2.2.2.2.2.1
  refine pk_loop (σ := Int32 × Int32 × Int32 × (Nat → Int32) × (Nat → Int32) × (Nat → Int32))
    (fun n i t => wX_widest_5 post n t.1 (nI i) f1 f2 (nI 3) (nI 1) t.2.1 t.2.2.1 F B K R T S E t.2.2.2.1 t.2.2.2.2.1 t.2.2.2.2.2)
    (fun i t => t.1 = pa_most a d i 0) 8 0 (-5, f5, f6, a8, a9, a10) (by omega) ?_ ?_ ?_
  · show (-5 : Int32) = pa_most a d 0 0
    unfold pa_most
    rw [if_neg (by omega), if_pos ⟨rfl, rfl⟩]
  · rintro n ⟨t, g5, g6, c8, c9, c10⟩ ht
    have ht' : t = nI 2 := by
      have ht : t = pa_most a d 8 0 := ht
      rw [ht]
      unfold pa_most
      rw [if_pos (Or.inl ha)]
    subst ht'
    exact br_t (by decide) (br_t (show (0 : Int32) ≤ nI 2 by decide) (H _ _ _ _ _))
  · rintro n i ⟨t, g5, g6, c8, c9, c10⟩ hi ht hw
    have ht : t = pa_most a d i 0 := ht
    refine br_f (nI_ge (b := 8) hi (by decide)) (pa_search p hi (fun e8 e9 e10 h8 => ?_))
    refine pk_loop (σ := Int32) (fun k j t' => wX_widest_18 post (wX_widest_5 post n) (nI i) f1 f2 (nI 3) (nI 1) (nI 0) (nI 0) F B K R T S E e8 e9 e10 k t' (nI j))
      (fun j t' => t' = pa_most a d i j) 8 0 t (by omega) ht ?_ ?_
    · intro k t' ht'
      refine br_t (by decide) (nm_r (nI_1 i) (hw (t', nI 0, nI 0, e8, e9, e10) ?_))
      show t' = pa_most a d (i + 1) 0
      rw [ht']
      unfold pa_most
      by_cases g : a < i + 1
      · rw [if_pos (by omega), if_pos (by omega)]
      · rw [if_neg (by omega), if_neg (by omega), if_neg (by omega), if_neg (by omega)]
    · intro k j t' hj ht' hw'
      refine br_f (nI_ge (b := 8) hj (by decide)) (pa_len hE hj ?_)
      rw [h8 j hj, ht']
      by_cases g : i = a ∧ j = d
      · rw [if_pos g]
        have e : ¬ nI 2 ≤ pa_most a d i j := by
          unfold pa_most
          rw [if_neg (by omega)]
          by_cases q : i = 0 ∧ j = 0
          · rw [if_pos q]
            decide
          · rw [if_neg q]
            decide
        refine br_f e (nm_r (nI_1 j) (hw' _ ?_))
        unfold pa_most
        rw [if_pos (by omega)]
      · rw [if_neg g]
        by_cases r : a < i ∨ (i = a ∧ d < j)
        · have e1 : pa_most a d i j = nI 2 := by
            unfold pa_most
            rw [if_pos r]
          have e2 : pa_most a d i (j + 1) = nI 2 := by
            unfold pa_most
            rw [if_pos (by omega)]
          rw [e1]
          exact br_t (by decide) (nm_r (nI_1 j) (hw' _ e2.symm))
        · have e2 : pa_most a d i (j + 1) = -1 := by
            unfold pa_most
            rw [if_neg (by omega), if_neg (by omega)]
          by_cases q : i = 0 ∧ j = 0
          · have e1 : pa_most a d i j = -5 := by
              unfold pa_most
              rw [if_neg r, if_pos q]
            rw [e1]
            exact br_f (by decide) (nm_r (nI_1 j) (hw' _ e2.symm))
          · have e1 : pa_most a d i j = -1 := by
              unfold pa_most
              rw [if_neg r, if_neg q]
            rw [e1]
            exact br_t (by decide) (nm_r (nI_1 j) (hw' _ e2.symm))
/-- a's bit if a leads to itself -/
theorem pa_loops {post : Int32 → St2 → Prop} (p : pa_P a b d l m F K R T S E)
    (H : ∀ g5 g6 c8 c9 c10, post (if a = d then pa_bit a else 0) (f1, f2, nI 3, nI 1, g5, g6, F, B, K, R, T, S, E, c8, c9, c10)) :
    wpX_loops post (f1, f2, nI 3, nI 1, f5, f6, F, B, K, R, T, S, E, a8, a9, a10) := by
  have ha : a < 8 := p.1.1
  have hd : d < 8 := p.1.2.2.1
  refine pk_loop (σ := Int32 × Int32 × Int32 × (Nat → Int32) × (Nat → Int32) × (Nat → Int32))
    (fun n i t => wX_loops_4 post n t.1 (nI i) f1 f2 (nI 3) (nI 1) t.2.1 t.2.2.1 F B K R T S E t.2.2.2.1 t.2.2.2.2.1 t.2.2.2.2.2)
    (fun i t => t.1 = if a < i ∧ a = d then pa_bit a else 0) 8 0 (0, f5, f6, a8, a9, a10) (by omega) (by rw [if_neg (by omega)]) ?_ ?_
  · rintro n ⟨t, g5, g6, c8, c9, c10⟩ ht
    have ht' : t = if a = d then pa_bit a else 0 := by
      have ht : t = if a < 8 ∧ a = d then pa_bit a else 0 := ht
      rw [ht]
      by_cases e : a = d
      · rw [if_pos e, if_pos ⟨ha, e⟩]
      · rw [if_neg e, if_neg (fun z => e z.2)]
    subst ht'
    exact br_t (by decide) (H _ _ _ _ _)
  · rintro n i ⟨t, g5, g6, c8, c9, c10⟩ hi ht hw
    have ht : t = if a < i ∧ a = d then pa_bit a else 0 := ht
    refine br_f (nI_ge (b := 8) hi (by decide)) (pa_reachFrom p hi (fun e8 e9 e10 => nm_e (nm_r (nI_1 i) (hw (_, nI 0, nI 0, e8, e9, e10) ?_))))
    show t ||| (pa_set a d i &&& pa_bit i) = if a < i + 1 ∧ a = d then pa_bit a else 0
    rw [ht]
    unfold pa_set
    by_cases g : i = a
    · rw [if_pos g, pa_bitA d hd i hi, if_neg (by omega), Int32.zero_or]
      by_cases e : a = d
      · rw [if_pos (by omega), if_pos (by omega), g]
      · rw [if_neg (by omega), if_neg (by omega)]
    · rw [if_neg g, Int32.zero_and, Int32.or_zero]
      by_cases e : a < i ∧ a = d
      · rw [if_pos e, if_pos (by omega)]
      · rw [if_neg e, if_neg (by omega)]
end
end
section
/-! ===== the law ===== -/
/-- the picture, as the law lays it -/
theorem pa_P0 {a b d l m : Nat} {F z3 z4 z5 z6 z7 : Nat → Int32} (ha : a < 8) (hb : b < 8) (hd : d < 8) (hl : l < 3) (hm : m < 3)
    (g1 : F (l * 8 + a) = pa_bit b) (g2 : ∀ x, x < 8 → x ≠ a → F (l * 8 + x) = 0) (g3 : F (m * 8 + b) = pa_bit d) :
    pa_P a b d l m F (upd (upd (upd z3 0 (nI l)) 1 (nI m)) 2 (nI 6)) (upd (upd (upd z4 0 (nI 0)) 1 (nI 2)) 2 (upd (upd z7 0 (nI 1)) 1 (nI 3) 0))
      (upd (upd (upd z5 0 (nI 1)) 1 (nI 3)) 2 (upd (upd z6 0 (nI 0)) 1 (nI 2) 1)) (upd (upd z6 0 (nI 0)) 1 (nI 2)) (upd (upd (upd z7 0 (nI 1)) 1 (nI 3)) 0 (upd (upd z7 0 (nI 1)) 1 (nI 3) 1)) :=
  ⟨⟨ha, hb, hd, hl, hm⟩, ⟨rfl, rfl, rfl⟩, ⟨rfl, rfl, rfl⟩, ⟨rfl, rfl, rfl⟩, rfl, rfl, g1, g2, g3⟩
theorem pa_lawOf (p0 p1 p2 p3 : Int32) : wpL_lawOf (fun r _ => r = 1) 480 7680 () p0 p1 p2 p3 := by
  obtain ⟨a, ha, ea⟩ := pk_andE p0 (m := 7) 3 (by decide)
  obtain ⟨b, hb, eb⟩ := pk_andE p1 (m := 7) 3 (by decide)
  obtain ⟨d, hd, ed⟩ := pk_andE p2 (m := 7) 3 (by decide)
  obtain ⟨q, hq, eq⟩ := pk_andE p3 (m := 2147483647) 31 (by decide)
  have ha : a < 8 := ha
  have hb : b < 8 := hb
  have hd : d < 8 := hd
  have el : (p3 &&& 2147483647) - (p3 &&& 2147483647) / 3 * 3 = nI (q % 3) := by
    rw [eq]
    exact pk_rem (d := 3) hq (by omega) (by omega)
  have hl : q % 3 < 3 := by omega
  generalize q % 3 = l at el hl
  have em : (nI l + 1) - (nI l + 1) / 3 * 3 = nI ((l + 1) % 3) := by
    rw [nI_1]
    exact pk_rem (d := 3) (by omega) (by omega) (by omega)
  have hm : (l + 1) % 3 < 3 := by omega
  have hlm : l ≠ (l + 1) % 3 := by omega
  generalize (l + 1) % 3 = m at em hm hlm
  refine ⟨by omega, by omega, 10, 900, by omega, by omega, ?_⟩
  refine ⟨by omega, by omega, by omega, by omega, by omega, by omega, by omega, by omega, by omega, by omega, by omega, by omega, by omega, by omega, by omega, by omega, by omega, by omega, by omega, by omega, ?_⟩
  refine nm_r ea (nm_r eb (nm_r ed ⟨by decide, nm_r el ⟨by decide, nm_r em ?_⟩⟩))
  refine pa_edge hl ha hb (pa_ends a b) rfl (fun r c1 c2 h1 h2 => ?_)
  refine pa_edge hm hb hd (pa_ends b d) (h2 _ (by omega)) (fun r' F c2' h1' h2' => ?_)
  have g1 : F (l * 8 + a) = pa_bit b := by
    rw [h2' _ (by omega)]
    exact h1
  have g2 : ∀ x, x < 8 → x ≠ a → F (l * 8 + x) = 0 := by
    intro x hx hne
    rw [h2' _ (by omega), h2 _ (by omega)]
  refine pa_label (p := 0) (s := 0) (v := 0) (h := 0) hl (by omega) (by omega) (by omega) ?_
  refine pa_label (p := 1) (s := 2) (v := 1) (h := 1) hm (by omega) (by omega) (by omega) ?_
  refine pa_then (br_t rfl ?_)
  have p := pa_P0 (z3 := fun _ => 0) (z4 := fun _ => 0) (z5 := fun _ => 0) (z6 := fun _ => 0) (z7 := fun _ => 0) ha hb hd hl hm g1 g2 h1'
  refine pa_reach p (fun _ _ _ => br_t rfl ?_)
  refine pa_shortest p (fun _ _ _ => br_t rfl ?_)
  refine pa_pairs p (fun _ _ _ _ _ => br_t rfl ?_)
  refine pa_widest p (fun _ _ _ _ _ => br_t rfl ?_)
  refine pa_loops p (fun _ _ _ _ _ => ?_)
  exact pk_eq a d (fun e => br_t (if_pos e) (br_t rfl rfl)) (fun e => br_t (if_neg e) (br_t rfl rfl))
theorem i_vc (xs : Nat → Int32) (L : Nat) (hL : L ≤ 4) : wpL_law (fun r => r = 1) L xs := by
  have C : ∀ (post : Int32 → Prop) (k : Nat), k < 4 → (∀ r, post r) → wpL_cellAt post L xs () (nI k) := fun post k hk h =>
    pk_le L k (fun _ => h _) (fun z => ⟨pk_in k L z, h _⟩)
  exact C _ 0 (by omega) (fun r1 => C _ 1 (by omega) (fun r2 => C _ 2 (by omega) (fun r3 => C _ 3 (by omega) (fun r4 => ⟨480, 7680, by omega, by omega, pa_lawOf r1 r2 r3 r4⟩))))
end
