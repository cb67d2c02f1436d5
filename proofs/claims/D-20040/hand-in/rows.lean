section
/-- the byte that the law writes into place k -/
def bc_b (x0 : Int64) (k : Nat) : Int32 := (((x0.toUInt64 >>> ((8 * nI k).toInt64.toUInt64 &&& Int64.toUInt64 63)).toInt64).toInt32).toInt8.toInt32
/-- the law's array after i turns of made -/
def bc_a (x0 : Int64) (i : Nat) : Nat → Int32 := fun k => if k < i then bc_b x0 k else 0
theorem bc_a0 (x0 : Int64) : bc_a x0 0 = fun _ => 0 := by
  funext k
  exact if_neg (Nat.not_lt_zero k)
theorem bc_as {x0 : Int64} {i k : Nat} {x : Int32} (hk : k = i) (hx : x = bc_b x0 i) : upd (bc_a x0 i) k x = bc_a x0 (i + 1) := by
  subst hk hx
  funext j
  unfold bc_a
  by_cases e : j = k
  · subst e
    rw [pk_us, if_pos (by omega)]
  · rw [pk_un e]
    by_cases h : j < k
    · rw [if_pos h, if_pos (by omega)]
    · rw [if_neg h, if_neg (by omega)]
theorem bc_n0 : vp_nar .byte 0 = 0 := by
  rw [vp_nar_byte]
  decide
theorem bc_an (x0 : Int64) (i k : Nat) : vp_nar .byte (bc_a x0 i k) = bc_a x0 i k := by
  unfold bc_a
  by_cases h : k < i
  · rw [if_pos h]
    exact pk_vb _
  · rw [if_neg h]
    exact bc_n0
/-- the mirror of place k within its group of w -/
def bc_m (w k : Nat) : Nat := k / w * w + (w - 1 - k % w)
theorem bc_dm (k w : Nat) : k / w * w + k % w = k := by
  have h := Nat.div_add_mod k w
  rw [Nat.mul_comm] at h
  exact h
theorem bc_mlt {G w k : Nat} (hw : 0 < w) (h : k < G * w) : bc_m w k < G * w := by
  have h1 : k / w < G := (Nat.div_lt_iff_lt_mul hw).mpr h
  have h2 : (k / w + 1) * w ≤ G * w := Nat.mul_le_mul_right w h1
  rw [Nat.add_mul, Nat.one_mul] at h2
  unfold bc_m
  omega
theorem bc_mg {g w k : Nat} (h1 : g * w ≤ k) (h2 : k < g * w + w) : bc_m w k = 2 * (g * w) + w - 1 - k := by
  have h3 : k / w = g := Nat.div_eq_of_lt_le h1 (by rw [Nat.add_mul, Nat.one_mul]; exact h2)
  have h4 := bc_dm k w
  unfold bc_m
  rw [h3] at h4 ⊢
  omega
/-- below i every place holds its mirror's value, from i on its own -/
def bc_Q (b : Nat → Int32) (w i : Nat) (a : Nat → Int32) : Prop := ∀ k, (k < i → a k = b (bc_m w k)) ∧ (¬ k < i → a k = b k)
theorem bc_Q0 (b : Nat → Int32) (w : Nat) : bc_Q b w 0 b := fun _ => ⟨fun h => absurd h (Nat.not_lt_zero _), fun _ => rfl⟩
theorem bc_Qs {b a : Nat → Int32} {w i k : Nat} {x : Int32} (h : bc_Q b w i a) (hk : k = i) (hx : x = b (bc_m w i)) : bc_Q b w (i + 1) (upd a k x) := by
  subst hk hx
  intro j
  by_cases e : j = k
  · subst e
    rw [pk_us]
    exact ⟨fun _ => rfl, fun z => absurd (Nat.lt_succ_self _) z⟩
  · rw [pk_un e]
    exact ⟨fun z => (h j).1 (by omega), fun z => (h j).2 (by omega)⟩
theorem bc_Qn {b a : Nat → Int32} {w i : Nat} (hb : ∀ k, vp_nar .byte (b k) = b k) (h : bc_Q b w i a) (k : Nat) : vp_nar .byte (a k) = a k := by
  by_cases e : k < i
  · rw [(h k).1 e]
    exact hb _
  · rw [(h k).2 e]
    exact hb _
theorem bc_Qe {b a a' : Nat → Int32} {w i : Nat} (h : bc_Q b w i a) (h' : bc_Q b w i a') (k : Nat) : a k = a' k := by
  by_cases e : k < i
  · rw [(h k).1 e, (h' k).1 e]
  · rw [(h k).2 e, (h' k).2 e]
/-- the group of w from s on: t places from either end have been swapped -/
def bc_P (s w t k : Nat) : Prop := (s ≤ k ∧ k < s + t) ∨ (s + w - t ≤ k ∧ k < s + w)
def bc_I (b : Nat → Int32) (s w t : Nat) (a : Nat → Int32) : Prop := ∀ k, (bc_P s w t k → a k = b (2 * s + w - 1 - k)) ∧ (¬ bc_P s w t k → a k = b k)
theorem bc_I0 (b : Nat → Int32) (s w : Nat) : bc_I b s w 0 b := by
  intro k
  refine ⟨fun h => ?_, fun _ => rfl⟩
  unfold bc_P at h
  omega
theorem bc_Is {b a : Nat → Int32} {s w t i j : Nat} {x y : Int32} (h : bc_I b s w t a) (ht : t < w / 2) (hi : i = s + t) (hj : j = s + w - 1 - t) (hx : x = b (s + w - 1 - t)) (hy : y = b (s + t)) : bc_I b s w (t + 1) (upd (upd a i x) j y) := by
  subst hi hj hx hy
  intro k
  by_cases e : k = s + w - 1 - t
  · subst e
    rw [pk_us]
    refine ⟨fun _ => congrArg b (by omega), fun z => absurd ?_ z⟩
    unfold bc_P
    omega
  · rw [pk_un e]
    by_cases e2 : k = s + t
    · subst e2
      rw [pk_us]
      refine ⟨fun _ => congrArg b (by omega), fun z => absurd ?_ z⟩
      unfold bc_P
      omega
    · rw [pk_un e2]
      refine ⟨fun z => (h k).1 ?_, fun z => (h k).2 (fun z2 => z ?_)⟩
      · unfold bc_P at z ⊢
        omega
      · unfold bc_P at z2 ⊢
        omega
theorem bc_Il {b a : Nat → Int32} {s w t : Nat} (h : bc_I b s w t a) (ht : t < w / 2) : a (s + t) = b (s + t) := (h _).2 (by unfold bc_P; omega)
theorem bc_Ir {b a : Nat → Int32} {s w t : Nat} (h : bc_I b s w t a) (ht : t < w / 2) : a (s + w - 1 - t) = b (s + w - 1 - t) := (h _).2 (by unfold bc_P; omega)
theorem bc_Qg {b a a' : Nat → Int32} {w g : Nat} (hw : 0 < w) (h : bc_Q b w (g * w) a) (h' : bc_I a (g * w) w (w / 2) a') : bc_Q b w ((g + 1) * w) a' := by
  intro k
  rw [Nat.add_mul, Nat.one_mul]
  by_cases e1 : k < g * w
  · have e2 : ¬ bc_P (g * w) w (w / 2) k := by
      unfold bc_P
      omega
    refine ⟨fun _ => ?_, fun z => absurd (by omega) z⟩
    rw [(h' k).2 e2, (h k).1 e1]
  · by_cases e3 : k < g * w + w
    · refine ⟨fun _ => ?_, fun z => absurd e3 z⟩
      rw [bc_mg (by omega) e3]
      by_cases e4 : bc_P (g * w) w (w / 2) k
      · rw [(h' k).1 e4]
        exact (h _).2 (by omega)
      · rw [(h' k).2 e4, (h k).2 e1]
        refine congrArg b ?_
        unfold bc_P at e4
        omega
    · have e2 : ¬ bc_P (g * w) w (w / 2) k := by
        unfold bc_P
        omega
      refine ⟨fun z => absurd z e3, fun _ => ?_⟩
      rw [(h' k).2 e2, (h k).2 e1]
/-- the twin's index, in two steps -/
theorem bc_x1 {i w : Nat} (hi : i < 2 ^ 31) (hw : 0 < w) (hw' : w < 2 ^ 31) : nI i - (nI i - nI i / nI w * nI w) = nI (i / w * w) := by
  have h := bc_dm i w
  rw [pk_rem hi hw hw', pk_sub (by omega)]
  exact congrArg nI (by omega)
theorem bc_x2 {i w : Nat} (hi : i < 2 ^ 31) (hw : 0 < w) (hw' : w < 2 ^ 31) : ((nI (i / w * w) + nI w) - 1) - (nI i - nI i / nI w * nI w) = nI (bc_m w i) := by
  have h := Nat.mod_lt i hw
  have e : i / w * w + w = (i / w * w + w - 1) + 1 := by omega
  rw [pk_rem hi hw hw', nI_add, e, nI_pred, pk_sub (by omega)]
  unfold bc_m
  exact congrArg nI (by omega)
theorem bc_x3 {s w : Nat} (hw : 0 < w) : (nI s + nI w) - 1 = nI (s + w - 1) := by
  have e : s + w = (s + w - 1) + 1 := by omega
  rw [nI_add, e, nI_pred]
  exact congrArg nI (by omega)
theorem bc_x4 {s w t : Nat} (ht : t < w / 2) : nI (s + w - 1 - t) + (-1) = nI (s + w - 1 - (t + 1)) := by
  have e : s + w - 1 - t = (s + w - 1 - (t + 1)) + 1 := by omega
  rw [e, pk_m1]
end
section
theorem bc_cell {post : Int32 → Prop} {L : Nat} {xs : Nat → Int32} {u : St0} (hL : L ≤ 3) (i : Nat) (hi : i < 3) (H : ∀ r, post r) : wpL_cellAt post L xs u (nI i) :=
  pk_le L i (fun _ => H _) (fun z => ⟨pk_in i L z, H _⟩)
theorem bc_made {post : St1 → Prop} {mc ms : Nat} {x0 : Int64} {p : Nat} (hp : p ≤ 8) (h1 : 1 ≤ mc) (h2 : p ≤ ms) (H : post (bc_a x0 p, p)) : wpL_made post mc ms () x0 (nI p) := by
  unfold wpL_made
  refine ⟨nI_pos (by omega), nm_r (nI_clamp (by omega)) ⟨by omega, h1, by omega, ?_⟩⟩
  exact pk_loop (fun n i s => wL_made_7 post mc ms x0 (nI p) 1 (0 + p) p n (nI i) s) (fun i s => s = bc_a x0 i) p 0 (fun _ => 0) (by omega) (bc_a0 x0).symm
    (fun n s h => pk_le p p (fun _ => by rw [h]; exact H) (fun z => absurd z (by omega)))
    (fun n i s hi h hw => pk_le p i (fun z => absurd z (by omega)) (fun _ => ⟨pk_in i p hi, nm_e (nm_r (nI_1 i) (hw _ (by rw [h]; exact bc_as (nI_clamp (by omega)) rfl)))⟩))
theorem bc_25 {post : Int32 → St1 → Prop} {J7 : Int32 → (Nat → Int32) → Prop} {x1 x2 : Int32} {g p s w : Nat} {b : Nat → Int32} (hp : p ≤ 8) (hw : 0 < w) (hs : s + w ≤ p) (hb : ∀ k, vp_nar .byte (b k) = b k)
    (H : ∀ a, bc_I b s w (w / 2) a → J7 (nI (g + 1)) a) : ∃ n, wX3_swapGroups_25 post J7 x1 x2 (nI g) p n (nI s) (nI (s + w - 1)) b :=
  pk_loop (fun n t a => wX3_swapGroups_25 post J7 x1 x2 (nI g) p n (nI (s + t)) (nI (s + w - 1 - t)) a) (fun t a => bc_I b s w t a) (w / 2) 0 b (Nat.zero_le _) (bc_I0 b s w)
    (fun n a h => pk_le (s + w - 1 - w / 2) (s + w / 2) (fun _ => nm_r (nI_1 g) (H a h)) (fun z => absurd z (by omega)))
    (fun n t a ht h hn => pk_le (s + w - 1 - t) (s + t) (fun z => absurd z (by omega)) (fun _ => ⟨pk_in (s + t) p (by omega), nm_e ⟨pk_in (s + w - 1 - t) p (by omega), pk_in (s + t) p (by omega), nm_e ⟨pk_in (s + w - 1 - t) p (by omega), nm_e (nm_r (nI_1 (s + t)) (nm_r (bc_x4 ht) (hn _ (bc_Is h ht (nI_clamp (by omega)) (nI_clamp (by omega))
      (by rw [nI_clamp (by omega), bc_Ir h ht, hb]) (by rw [nI_clamp (by omega), bc_Il h ht, hb])))))⟩⟩⟩))
theorem bc_7 {post : Int32 → St1 → Prop} {G p w : Nat} {b : Nat → Int32} (hp : p ≤ 8) (hw : 0 < w) (hG : G * w ≤ p) (hG8 : G ≤ 8) (hb : ∀ k, vp_nar .byte (b k) = b k)
    (H : ∀ a, bc_Q b w (G * w) a → post (nI G) (a, p)) : ∃ n, wX3_swapGroups_7 post (nI w) (nI G) p n 0 b := by
  refine pk_loop (fun n g a => wX3_swapGroups_7 post (nI w) (nI G) p n (nI g) a) (fun g a => bc_Q b w (g * w) a) G 0 b (Nat.zero_le _) ?_ ?_ ?_
  · show bc_Q b w (0 * w) b
    rw [Nat.zero_mul]
    exact bc_Q0 b w
  · exact fun n a h => pk_le G G (fun _ => H a h) (fun z => absurd z (by omega))
  · intro n g a hg h hn
    have h1 : (g + 1) * w ≤ G * w := Nat.mul_le_mul_right w hg
    rw [Nat.add_mul, Nat.one_mul] at h1
    exact pk_le G g (fun z => absurd z (by omega)) (fun _ => nm_r (pk_mul g w) (nm_r (bc_x3 hw) (bc_25 hp hw (by omega) (bc_Qn hb h) (fun a' h' => hn a' (bc_Qg hw h h')))))
theorem bc_X3 {post : Int32 → St1 → Prop} {p w : Nat} {b : Nat → Int32} (hp : p ≤ 8) (hw : 0 < w) (hw8 : w ≤ 8) (hb : ∀ k, vp_nar .byte (b k) = b k)
    (H : ∀ a, bc_Q b w (p / w * w) a → post (nI (p / w)) (a, p)) : wpX3_swapGroups post (b, p) (nI w) := by
  have h1 : p / w ≤ p := Nat.div_le_self p w
  unfold wpX3_swapGroups
  exact ⟨nI_ne0 hw (by omega), nm_r (pk_div (a := p) (by omega) hw (by omega)) (bc_7 hp hw (Nat.div_mul_le_self p w) (by omega) hb H)⟩
theorem bc_37 {post : Int32 → St1 → Prop} {mc ms kc ks G p w : Nat} {b c : Nat → Int32} (hp : p ≤ 8) (hw : 0 < w) (hw8 : w ≤ 8) (hG : G * w ≤ p) (hb : ∀ k, vp_nar .byte (b k) = b k) (hc : ∀ k, k < p → c k = b k)
    (H : ∀ a, bc_Q b w (G * w) a → post (nI G) (a, p)) : ∃ n, wX4_swapGroups_37 post mc ms (nI w) (nI G) kc ks p p n 0 b c := by
  refine pk_loop (fun n i a => wX4_swapGroups_37 post mc ms (nI w) (nI G) kc ks p p n (nI i) a c) (fun i a => bc_Q b w i a) (G * w) 0 b (Nat.zero_le _) (bc_Q0 b w) ?_ ?_
  · exact fun n a h => pk_le (G * w) (G * w) (fun _ => H a h) (fun z => absurd z (by omega)) (hx := pk_mul G w)
  · intro n i a hi h hn
    have h1 : bc_m w i < G * w := bc_mlt hw hi
    have h2 : ((nI (i / w * w) + nI w) - 1) - (nI i - nI i / nI w * nI w) = nI (bc_m w i) := bc_x2 (by omega) hw (by omega)
    exact pk_le (G * w) i (fun z => absurd z (by omega)) (fun _ => ⟨nI_ne0 hw (by omega), nm_r (bc_x1 (by omega) hw (by omega)) ⟨nI_ne0 hw (by omega), pk_in (bc_m w i) p (by omega) h2, pk_in i p (by omega), nm_e (nm_r (nI_1 i) (hn _ (bc_Qs h (nI_clamp (by omega))
      (by rw [h2, nI_clamp (by omega), hc _ (by omega), hb]))))⟩⟩) (hx := pk_mul G w)
theorem bc_13 {post : Int32 → St1 → Prop} {mc ms kc ks G p w : Nat} {b : Nat → Int32} (hp : p ≤ 8) (hw : 0 < w) (hw8 : w ≤ 8) (hG : G * w ≤ p) (hb : ∀ k, vp_nar .byte (b k) = b k)
    (H : ∀ a, bc_Q b w (G * w) a → post (nI G) (a, p)) : ∃ n, wX4_swapGroups_13 post mc ms (nI w) (nI G) kc ks p p n 0 b (fun _ => 0) := by
  refine pk_loop (fun n i c => wX4_swapGroups_13 post mc ms (nI w) (nI G) kc ks p p n (nI i) b c) (fun i c => ∀ k, k < i → c k = b k) p 0 (fun _ => 0) (Nat.zero_le _) (fun k hk => absurd hk (Nat.not_lt_zero k)) ?_ ?_
  · exact fun n c h => pk_le p p (fun _ => bc_37 hp hw hw8 hG hb h H) (fun z => absurd z (by omega))
  · intro n i c hi h hn
    refine pk_le p i (fun z => absurd z (by omega)) (fun _ => ⟨pk_in i p hi, pk_in i p hi, nm_e (nm_r (nI_1 i) (hn _ ?_))⟩)
    intro k hk
    rw [nI_clamp (by omega)]
    by_cases e : k = i
    · rw [e, pk_us, hb]
    · rw [pk_un e]
      exact h k (by omega)
theorem bc_X4 {post : Int32 → St1 → Prop} {mc ms p w : Nat} {b : Nat → Int32} (hp : p ≤ 8) (hw : 0 < w) (hw8 : w ≤ 8) (h1 : 1 ≤ mc) (h2 : p ≤ ms) (hb : ∀ k, vp_nar .byte (b k) = b k)
    (H : ∀ a, bc_Q b w (p / w * w) a → post (nI (p / w)) (a, p)) : wpX4_swapGroups post mc ms (b, p) (nI w) := by
  unfold wpX4_swapGroups
  exact ⟨nI_ne0 hw (by omega), nm_r (pk_div (a := p) (by omega) hw (by omega)) ⟨nI_pos (n := p) (by omega), nm_r (nI_clamp (n := p) (by omega)) ⟨by omega, h1, by omega, bc_13 hp hw hw8 (Nat.div_mul_le_self p w) hb H⟩⟩⟩
theorem bc_60 {post : Int32 → St0 → Prop} {mc ms kc ks p : Nat} {a a' : Nat → Int32} (hp : p ≤ 8) (h : ∀ k, a k = a' k) (H : post 1 ()) : ∃ n, wL_lawOf_60 post mc ms (nI p) kc ks a p a' p n 0 :=
  pk_loop (σ := Unit) (fun n i _ => wL_lawOf_60 post mc ms (nI p) kc ks a p a' p n (nI i)) (fun _ _ => True) p 0 () (Nat.zero_le _) trivial
    (fun n _ _ => pk_le p p (fun _ => H) (fun z => absurd z (by omega)))
    (fun n i _ hi _ hn => pk_le p i (fun z => absurd z (by omega)) (fun _ => ⟨pk_in i p hi, pk_in i p hi, br_t (h _) (nm_r (nI_1 i) (hn () trivial))⟩))
end
section
theorem bc_14 {post : Int32 → St0 → Prop} {x0 : Int64} {x2 : Int32} {p : Nat} (hp : p ≤ 8) (H : post 1 ()) : wL_lawOf_14 post 5 72 x0 x2 (nI p) 0 0 := by
  obtain ⟨j, hj, ej⟩ := pk_andE ((x2.toUInt32 >>> ((4 : Int32).toUInt32 &&& Int32.toUInt32 31)).toInt32) (m := 7) 3 (by decide)
  unfold wL_lawOf_14
  refine ⟨1, 8, by omega, by omega, bc_made hp (by omega) (by omega) ?_⟩
  refine ⟨1, 8, by omega, by omega, bc_made hp (by omega) (by omega) ?_⟩
  refine nm_r (e' := nI (1 + j)) (by rw [ej]; exact nI_add 1 j) ?_
  refine bc_X3 hp (by omega) (by omega) (bc_an x0 p) (fun a ha => ?_)
  refine ⟨1, 8, by omega, by omega, bc_X4 hp (by omega) (by omega) (by omega) (by omega) (bc_an x0 p) (fun a' ha' => ?_)⟩
  exact br_t rfl (bc_60 hp (bc_Qe ha ha') H)
theorem bc_lawOf {post : Int32 → St0 → Prop} {x0 : Int64} {x2 : Int32} (H : post 1 ()) : wpL_lawOf post 5 72 () x0 x2 := by
  obtain ⟨j, hj, ej⟩ := pk_andE x2 (m := 15) 4 (by decide)
  unfold wpL_lawOf
  exact nm_r ej (pk_le j 8 (fun z => bc_14 z H) (fun _ => bc_14 (p := 8) (by omega) H))
theorem i_vc (xs : Nat → Int32) (L : Nat) (hL : L ≤ 3) : wpL_law (fun r => r = 1) L xs :=
  bc_cell hL 0 (by omega) (fun _ => bc_cell hL 1 (by omega) (fun _ => bc_cell hL 2 (by omega) (fun _ => ⟨5, 72, by omega, by omega, bc_lawOf rfl⟩)))
end
