section
/-! ## numbers, and a row of a table that a loop writes place by place -/
theorem cz_3 (r o : Nat) : (3 : Int32) * nI r + nI o = nI (3 * r + o) := by
  show nI 3 * nI r + nI o = _
  rw [pk_mul, nI_add]
theorem cz_49 (r o : Nat) : (49 : Int32) * nI r + nI o = nI (49 * r + o) := by
  show nI 49 * nI r + nI o = _
  rw [pk_mul, nI_add]
theorem cz_24 (r e o : Nat) : (24 : Int32) * nI r + (3 : Int32) * nI e + nI o = nI (24 * r + 3 * e + o) := by
  show nI 24 * nI r + nI 3 * nI e + nI o = _
  rw [pk_mul, pk_mul, nI_add, nI_add]
/-- s holds F on the first i places from b on, and a elsewhere -/
def cz_R (F a : Nat → Int32) (b i : Nat) (s : Nat → Int32) : Prop := ∀ j, s j = if b ≤ j ∧ j < b + i then F j else a j
theorem cz_R0 {F a : Nat → Int32} {b : Nat} : cz_R F a b 0 a := fun j => (if_neg (by omega)).symm
theorem cz_put {F a s : Nat → Int32} {b i : Nat} {x : Int32} (h : cz_R F a b i s) (hx : x = F (b + i)) : cz_R F a b (i + 1) (upd s (b + i) x) := by
  intro j
  by_cases e : j = b + i
  · rw [e, pk_us, hx, if_pos (by omega)]
  · rw [pk_un e, h j]
    by_cases g : b ≤ j ∧ j < b + i
    · rw [if_pos g, if_pos (by omega)]
    · rw [if_neg g, if_neg (by omega)]
theorem cz_keep {F a s : Nat → Int32} {b i : Nat} (h : cz_R F a b i s) (hx : a (b + i) = F (b + i)) : cz_R F a b (i + 1) s := by
  intro j
  rw [h j]
  by_cases g : b ≤ j ∧ j < b + i
  · rw [if_pos g, if_pos (by omega)]
  · rw [if_neg g]
    by_cases e : j = b + i
    · rw [e, if_pos (by omega), hx]
    · rw [if_neg (by omega)]
theorem cz_out {F a s : Nat → Int32} {b i j : Nat} (h : cz_R F a b i s) (hj : ¬ (b ≤ j ∧ j < b + i)) : s j = a j := by
  rw [h j, if_neg hj]
/-! ## the small methods -/
theorem cz_rep {post : Int32 → Prop} {u : St0} {r : Nat} (hr : r ≤ 2) (h : post 1) : wpX_isReplica post u (nI r) :=
  pk_lt r 0 (fun z => absurd z (by omega)) (fun _ => pk_lt 2 r (fun z => absurd z (by omega)) (fun _ => h))
theorem cz_cell {post : Int32 → Prop} {L : Nat} {xs : Nat → Int32} {u : St0} (i : Nat) (hi : i < 4) (hL : L ≤ 4) (h : ∀ r, post r) : wpL_cellAt post L xs u (nI i) :=
  pk_le L i (fun _ => h 0) (fun z => ⟨pk_in i L z, h _⟩)
def cz_s29 (x z : Int32) : Int32 := if x ≤ z then z else x
def cz_s17 (b c z : Int32) : Int32 := if c ≤ b then cz_s29 z 0 else cz_s29 z c
/-- the survivor of mine a (known there b) and the other's c (known there d) -/
def cz_s (a b c d : Int32) : Int32 := if a = c then a else if a ≤ d then cz_s17 b c 0 else cz_s17 b c a
theorem cz_29 {post : Int32 → Prop} {x z : Int32} (h : post (cz_s29 x z)) : wX_survivor_29 post x z :=
  br_c (fun g => by rw [cz_s29, if_pos g] at h; exact h) (fun g => by rw [cz_s29, if_neg g] at h; exact h)
theorem cz_17 {post : Int32 → Prop} {b c z : Int32} (h : post (cz_s17 b c z)) : wX_survivor_17 post b c z :=
  br_c (fun g => by rw [cz_s17, if_pos g] at h; exact cz_29 h) (fun g => by rw [cz_s17, if_neg g] at h; exact cz_29 h)
theorem cz_sv {post : Int32 → Prop} {u : St0} {a b c d : Int32} (h : post (cz_s a b c d)) : wpX_survivor post u a b c d :=
  br_c (fun g => by rw [cz_s, if_pos g] at h; exact h) (fun g => br_c
    (fun g2 => by rw [cz_s, if_neg g, if_pos g2] at h; exact cz_17 h)
    (fun g2 => by rw [cz_s, if_neg g, if_neg g2] at h; exact cz_17 h))
end
section
/-! ## assign: dropAssigns, apply (of an assign), make (of an assign) -/
theorem cz_drop {post : St2 → Prop} {f : Int32} {a1 a2 a3 a4 a5 a6 a7 a8 a9 a10 : Nat → Int32} {r c : Nat} (hr : r ≤ 2) (hc : c < 48)
    (H : ∀ b, cz_R (fun j => if a3 (3 * c + (j - 3 * r)) < a10 j then a10 j else 0) a10 (3 * r) 3 b → post (f, a1, a2, a3, a4, a5, a6, a7, a8, a9, b)) :
    wpX_dropAssigns post (f, a1, a2, a3, a4, a5, a6, a7, a8, a9, a10) (nI r) (nI c) := by
  unfold wpX_dropAssigns
  refine pk_loop (fun n i s => wX_dropAssigns_2 post (nI r) (nI c) f n (nI i) a1 a2 a3 a4 a5 a6 a7 a8 a9 s)
    (fun i s => cz_R (fun j => if a3 (3 * c + (j - 3 * r)) < a10 j then a10 j else 0) a10 (3 * r) i s) 3 0 a10 (by omega) cz_R0
    (fun n s h => pk_le 3 3 (fun _ => H s h) (fun z => absurd z (by omega))) (fun n i s hi h hw => pk_le 3 i (fun z => absurd z (by omega)) (fun _ => ?_))
  have e1 : s (3 * r + i) = a10 (3 * r + i) := cz_out h (by omega)
  have e2 : 3 * r + i - 3 * r = i := by omega
  rw [cz_3, cz_3, nI_clamp (show 3 * c + i < 2 ^ 31 by omega)]
  refine nm_e ⟨pk_in (3 * r + i) 9 (by omega), pk_in (3 * c + i) 144 (by omega), ?_⟩
  rw [nI_clamp (show 3 * r + i < 2 ^ 31 by omega), e1]
  refine br_c (fun g => nm_r (nI_1 i) (hw s (cz_keep h ?_))) (fun g => ⟨pk_in (3 * r + i) 9 (by omega), nm_e (nm_r (nI_1 i) (hw _ (cz_put h ?_)))⟩)
  · show _ = if a3 (3 * c + (3 * r + i - 3 * r)) < a10 (3 * r + i) then a10 (3 * r + i) else 0
    rw [e2, if_pos g]
  · show _ = if a3 (3 * c + (3 * r + i - 3 * r)) < a10 (3 * r + i) then a10 (3 * r + i) else 0
    rw [e2, if_neg g]
theorem cz_apply {post : St2 → Prop} {f k : Int32} {a1 a2 a3 a4 a5 a6 a7 a8 a9 a10 : Nat → Int32} {r c o : Nat} (hr : r ≤ 2) (ho : o ≤ 2) (hc : c < 48) (h1 : a1 c = 2)
    (H : ∀ b, cz_R (fun j => if a3 (3 * c + (j - 3 * r)) < a10 j then a10 j else 0) a10 (3 * r) 3 b → post (f, a1, a2, a3, a4, a5, a6, upd a7 (3 * r + o) k, a8, a9, upd b (3 * r + o) k)) :
    wpX_apply post (f, a1, a2, a3, a4, a5, a6, a7, a8, a9, a10) (nI r) (nI c) (nI o) k := by
  unfold wpX_apply
  refine ⟨pk_in c 48 hc, nm_r (e' := 2) (by rw [nI_clamp (by omega)]; exact h1) (br_f (by decide) (br_f (by decide) (br_t rfl (cz_drop hr hc (fun b hb => ?_)))))⟩
  refine ⟨?_, nm_r (e' := upd b (3 * r + o) k) ?_ ?_⟩
  · rw [cz_3]
    exact pk_in (3 * r + o) 9 (by omega)
  · rw [cz_3, nI_clamp (show 3 * r + o < 2 ^ 31 by omega)]
  · unfold wX_apply_128
    rw [cz_3, nI_clamp (show 3 * r + o < 2 ^ 31 by omega)]
    exact ⟨pk_in (3 * r + o) 9 (by omega), nm_e (H b hb)⟩
theorem cz_53 {post : Int32 → St2 → Prop} {f v : Int32} {a1 a2 a3 a4 a5 a6 a7 a8 a9 a10 : Nat → Int32} {r m k : Nat} (hr : r ≤ 2) (hm : m < 48) (hk : k < 48) (h4 : a4 r = nI k) (h1 : a1 m = 2)
    (H : ∀ b3 b6 b, cz_R (fun j => if a7 j < a10 j then a10 j else 0) a10 (3 * r) 3 b → post f (f, a1, a2, b3, upd a4 r (nI (k + 1)), upd a5 (49 * r + (k + 1)) (nI m), b6, upd a7 (3 * r + r) (nI (k + 1)), a8, a9, upd b (3 * r + r) (nI (k + 1)))) :
    ∃ n, wX_make_53 post (nI r) 2 v (nI m) f n 0 a1 a2 a3 a4 a5 a6 a7 a8 a9 a10 := by
  refine pk_loop (fun n i s => wX_make_53 post (nI r) 2 v (nI m) f n (nI i) a1 a2 s a4 a5 a6 a7 a8 a9 a10)
    (fun i s => cz_R (fun j => a7 (3 * r + (j - 3 * m))) a3 (3 * m) i s) 3 0 a3 (by omega) cz_R0
    (fun n s h => pk_le 3 3 (fun _ => ?_) (fun z => absurd z (by omega))) (fun n i s hi h hw => pk_le 3 i (fun z => absurd z (by omega)) (fun _ => ?_))
  · refine ⟨pk_in r 3 (by omega), nm_r (e' := nI (k + 1)) (by rw [nI_clamp (by omega), h4, nI_1]) ⟨pk_in r 3 (by omega), nm_r (e' := upd a4 r (nI (k + 1))) (by rw [nI_clamp (by omega)]) ?_⟩⟩
    rw [cz_49, nI_clamp (show 49 * r + (k + 1) < 2 ^ 31 by omega)]
    refine ⟨pk_in (49 * r + (k + 1)) 147 (by omega), nm_e ⟨pk_in (49 * r + k) 147 (by omega) (nI_pred (49 * r + k)), br_f (by decide) ?_⟩⟩
    unfold wX_make_155
    refine ⟨pk_in (49 * r + (k + 1)) 147 (by omega), nm_e (cz_apply hr hr hm h1 (fun b hb => H s _ b (fun j => ?_)))⟩
    rw [hb j]
    by_cases g : 3 * r ≤ j ∧ j < 3 * r + 3
    · rw [if_pos g, if_pos g]
      have e : s (3 * m + (j - 3 * r)) = a7 j := by
        rw [h (3 * m + (j - 3 * r)), if_pos (by omega)]
        show a7 (3 * r + (3 * m + (j - 3 * r) - 3 * m)) = a7 j
        rw [show 3 * r + (3 * m + (j - 3 * r) - 3 * m) = j by omega]
      show (if s (3 * m + (j - 3 * r)) < a10 j then a10 j else 0) = if a7 j < a10 j then a10 j else 0
      rw [e]
    · rw [if_neg g, if_neg g]
  · rw [cz_3, cz_3, nI_clamp (show 3 * r + i < 2 ^ 31 by omega), nI_clamp (show 3 * m + i < 2 ^ 31 by omega)]
    refine ⟨pk_in (3 * r + i) 9 (by omega), pk_in (3 * m + i) 144 (by omega), nm_e (nm_r (nI_1 i) (hw _ (cz_put h ?_)))⟩
    show _ = a7 (3 * r + (3 * m + i - 3 * m))
    rw [show 3 * m + i - 3 * m = i by omega]
/-- assign at replica r: change m is made, the k-th of r so far; what r knows of the row's assigns falls -/
theorem cz_assign {post : Int32 → St2 → Prop} {v : Int32} {a1 a2 a3 a4 a5 a6 a7 a8 a9 a10 : Nat → Int32} (r m k : Nat) (hr : r ≤ 2) (hm : m < 48) (hk : k < 48) (h4 : a4 r = nI k)
    (H : ∀ b1 b3 b6 b, cz_R (fun j => if a7 j < a10 j then a10 j else 0) a10 (3 * r) 3 b → post (nI (m + 1)) (nI (m + 1), b1, upd a2 m v, b3, upd a4 r (nI (k + 1)), upd a5 (49 * r + (k + 1)) (nI m), b6, upd a7 (3 * r + r) (nI (k + 1)), a8, a9, upd b (3 * r + r) (nI (k + 1)))) :
    wpX_assign post (nI m, a1, a2, a3, a4, a5, a6, a7, a8, a9, a10) (nI r) v := by
  unfold wpX_assign
  dsimp only
  unfold wpX_make
  dsimp only
  refine cz_rep hr (br_f (by decide) (br_t (nI_lt hm (by decide)) (nm_r (nI_1 m) ?_)))
  rw [nI_clamp (show m < 2 ^ 31 by omega)]
  refine ⟨pk_in m 48 hm, nm_e ⟨pk_in m 48 hm, nm_e (cz_53 hr hm hk h4 pk_us (fun b3 b6 b hb => ?_))⟩⟩
  exact H _ b3 b6 b hb
end
section
/-! ## sync: joinAdds (what it writes doesn't matter), joinAssigns, joinVectors -/
theorem cz_ja11 {post : St2 → Prop} {J : Int32 → (Nat → Int32) → (Nat → Int32) → (Nat → Int32) → (Nat → Int32) → (Nat → Int32) → (Nat → Int32) → (Nat → Int32) → (Nat → Int32) → (Nat → Int32) → (Nat → Int32) → Prop} {f : Int32} {a1 a2 a3 a4 a5 a6 a7 a8 a9 a10 : Nat → Int32} {p q i : Nat} (hp : p ≤ 2) (hq : q ≤ 2) (hi : i < 8)
    (H : ∀ b, J (nI (i + 1)) a1 a2 a3 a4 a5 a6 a7 a8 b a10) :
    ∃ n, wX_joinAdds_11 post J (nI p) (nI q) (nI i) f n 0 a1 a2 a3 a4 a5 a6 a7 a8 a9 a10 := by
  refine pk_loop (fun n o s => wX_joinAdds_11 post J (nI p) (nI q) (nI i) f n (nI o) a1 a2 a3 a4 a5 a6 a7 a8 s a10) (fun _ _ => True) 3 0 a9 (by omega) trivial
    (fun n s _ => pk_le 3 3 (fun _ => nm_r (nI_1 i) (H s)) (fun z => absurd z (by omega))) (fun n o s ho _ hw => pk_le 3 o (fun z => absurd z (by omega)) (fun _ => ?_))
  rw [cz_24, cz_24, cz_3, cz_3]
  exact ⟨pk_in (24 * q + 3 * i + o) 72 (by omega), nm_e ⟨pk_in (24 * p + 3 * i + o) 72 (by omega), nm_e ⟨pk_in (3 * q + o) 9 (by omega), pk_in (3 * p + o) 9 (by omega), cz_sv ⟨pk_in (24 * q + 3 * i + o) 72 (by omega), nm_e (nm_r (nI_1 o) (hw _ trivial))⟩⟩⟩⟩
theorem cz_jAdds {post : St2 → Prop} {f : Int32} {a1 a2 a3 a4 a5 a6 a7 a8 a9 a10 : Nat → Int32} {p q : Nat} (hp : p ≤ 2) (hq : q ≤ 2)
    (H : ∀ b, post (f, a1, a2, a3, a4, a5, a6, a7, a8, b, a10)) :
    wpX_joinAdds post (f, a1, a2, a3, a4, a5, a6, a7, a8, a9, a10) (nI p) (nI q) := by
  unfold wpX_joinAdds
  exact pk_loop (fun n i s => wX_joinAdds_2 post (nI p) (nI q) f n (nI i) a1 a2 a3 a4 a5 a6 a7 a8 s a10) (fun _ _ => True) 8 0 a9 (by omega) trivial
    (fun n s _ => pk_le 8 8 (fun _ => H s) (fun z => absurd z (by omega))) (fun n i s hi _ hw => pk_le 8 i (fun z => absurd z (by omega)) (fun _ => cz_ja11 hp hq hi (fun b => hw b trivial)))
theorem cz_jAss {post : St2 → Prop} {f : Int32} {a1 a2 a3 a4 a5 a6 a7 a8 a9 a10 : Nat → Int32} {p q : Nat} (hp : p ≤ 2) (hq : q ≤ 2) (hn : p ≠ q)
    (H : ∀ b, cz_R (fun j => cz_s (a10 j) (a7 j) (a10 (3 * p + (j - 3 * q))) (a7 (3 * p + (j - 3 * q)))) a10 (3 * q) 3 b → post (f, a1, a2, a3, a4, a5, a6, a7, a8, a9, b)) :
    wpX_joinAssigns post (f, a1, a2, a3, a4, a5, a6, a7, a8, a9, a10) (nI p) (nI q) := by
  unfold wpX_joinAssigns
  refine pk_loop (fun n i s => wX_joinAssigns_2 post (nI p) (nI q) f n (nI i) a1 a2 a3 a4 a5 a6 a7 a8 a9 s)
    (fun i s => cz_R (fun j => cz_s (a10 j) (a7 j) (a10 (3 * p + (j - 3 * q))) (a7 (3 * p + (j - 3 * q)))) a10 (3 * q) i s) 3 0 a10 (by omega) cz_R0
    (fun n s h => pk_le 3 3 (fun _ => H s h) (fun z => absurd z (by omega))) (fun n i s hi h hw => pk_le 3 i (fun z => absurd z (by omega)) (fun _ => ?_))
  have e1 : s (3 * q + i) = a10 (3 * q + i) := cz_out h (by omega)
  have e2 : s (3 * p + i) = a10 (3 * p + i) := cz_out h (by omega)
  have e3 : 3 * q + i - 3 * q = i := by omega
  rw [cz_3, cz_3, nI_clamp (show 3 * q + i < 2 ^ 31 by omega), nI_clamp (show 3 * p + i < 2 ^ 31 by omega), e1, e2]
  refine ⟨pk_in (3 * q + i) 9 (by omega), nm_e ⟨pk_in (3 * p + i) 9 (by omega), nm_e ⟨pk_in (3 * q + i) 9 (by omega), pk_in (3 * p + i) 9 (by omega), cz_sv ⟨pk_in (3 * q + i) 9 (by omega), nm_e (nm_r (nI_1 i) (hw _ (cz_put h ?_)))⟩⟩⟩⟩
  show _ = cz_s (a10 (3 * q + i)) (a7 (3 * q + i)) (a10 (3 * p + (3 * q + i - 3 * q))) (a7 (3 * p + (3 * q + i - 3 * q)))
  rw [e3]
theorem cz_jv61 {post : St2 → Prop} {J : Int32 → (Nat → Int32) → (Nat → Int32) → (Nat → Int32) → (Nat → Int32) → (Nat → Int32) → (Nat → Int32) → (Nat → Int32) → (Nat → Int32) → (Nat → Int32) → (Nat → Int32) → Prop} {x1 x2 z f : Int32} {a1 a2 a3 a4 a5 a6 a7 a8 a9 a10 : Nat → Int32} {i t u : Nat} (ht : t < 9) (hu : u < 9)
    (H : ∀ b, J (nI (i + 1)) a1 a2 a3 a4 a5 a6 (upd a7 u z) b a9 a10) :
    wX_joinVectors_61 post J x1 x2 (nI i) (nI t) (nI u) z (nI u) f a1 a2 a3 a4 a5 a6 a7 a8 a9 a10 := by
  unfold wX_joinVectors_61
  rw [nI_clamp (show u < 2 ^ 31 by omega)]
  exact ⟨pk_in u 9 hu, nm_e ⟨pk_in t 9 ht, pk_in u 9 hu, br_c (fun _ => ⟨pk_in u 9 hu, pk_in u 9 hu, nm_e (nm_r (nI_1 i) (H _))⟩) (fun _ => ⟨pk_in t 9 ht, pk_in u 9 hu, nm_e (nm_r (nI_1 i) (H _))⟩)⟩⟩
theorem cz_jVec {post : St2 → Prop} {f : Int32} {a1 a2 a3 a4 a5 a6 a7 a8 a9 a10 : Nat → Int32} {p q : Nat} (hp : p ≤ 2) (hq : q ≤ 2) (hn : p ≠ q)
    (H : ∀ b b8, cz_R (fun j => if a7 (3 * p + (j - 3 * q)) ≤ a7 j then a7 j else a7 (3 * p + (j - 3 * q))) a7 (3 * q) 3 b → post (f, a1, a2, a3, a4, a5, a6, b, b8, a9, a10)) :
    wpX_joinVectors post (f, a1, a2, a3, a4, a5, a6, a7, a8, a9, a10) (nI p) (nI q) := by
  unfold wpX_joinVectors
  refine pk_loop (σ := (Nat → Int32) × (Nat → Int32)) (fun n i s => wX_joinVectors_2 post (nI p) (nI q) f n (nI i) a1 a2 a3 a4 a5 a6 s.1 s.2 a9 a10)
    (fun i s => cz_R (fun j => if a7 (3 * p + (j - 3 * q)) ≤ a7 j then a7 j else a7 (3 * p + (j - 3 * q))) a7 (3 * q) i s.1) 3 0 (a7, a8) (by omega) cz_R0
    (fun n s h => pk_le 3 3 (fun _ => H s.1 s.2 h) (fun z => absurd z (by omega))) (fun n i s hi h hw => pk_le 3 i (fun z => absurd z (by omega)) (fun _ => ?_))
  obtain ⟨s, s8⟩ := s
  have h' : cz_R (fun j => if a7 (3 * p + (j - 3 * q)) ≤ a7 j then a7 j else a7 (3 * p + (j - 3 * q))) a7 (3 * q) i s := h
  have e1 : s (3 * q + i) = a7 (3 * q + i) := cz_out h' (by omega)
  have e2 : s (3 * p + i) = a7 (3 * p + i) := cz_out h' (by omega)
  have e3 : 3 * q + i - 3 * q = i := by omega
  dsimp only
  refine nm_r (cz_3 p i) (nm_r (cz_3 q i) ?_)
  rw [nI_clamp (show 3 * q + i < 2 ^ 31 by omega), nI_clamp (show 3 * p + i < 2 ^ 31 by omega), e1, e2]
  refine ⟨pk_in (3 * p + i) 9 (by omega), pk_in (3 * q + i) 9 (by omega), br_c (fun g => ⟨pk_in (3 * q + i) 9 (by omega), cz_jv61 (by omega) (by omega) (fun b => hw (_, b) (cz_put h' ?_))⟩) (fun g => ⟨pk_in (3 * p + i) 9 (by omega), cz_jv61 (by omega) (by omega) (fun b => hw (_, b) (cz_put h' ?_))⟩)⟩
  · show _ = if a7 (3 * p + (3 * q + i - 3 * q)) ≤ a7 (3 * q + i) then a7 (3 * q + i) else a7 (3 * p + (3 * q + i - 3 * q))
    rw [e3, if_pos g]
  · show _ = if a7 (3 * p + (3 * q + i - 3 * q)) ≤ a7 (3 * q + i) then a7 (3 * q + i) else a7 (3 * p + (3 * q + i - 3 * q))
    rw [e3, if_neg g]
theorem cz_sync {post : Int32 → St2 → Prop} {f : Int32} {a1 a2 a3 a4 a5 a6 a7 a8 a9 a10 : Nat → Int32} (p q : Nat) (hp : p ≤ 2) (hq : q ≤ 2) (hn : p ≠ q)
    (H : ∀ b7 b8 b9 b, cz_R (fun j => cz_s (a10 j) (a7 j) (a10 (3 * p + (j - 3 * q))) (a7 (3 * p + (j - 3 * q)))) a10 (3 * q) 3 b →
      cz_R (fun j => if a7 (3 * p + (j - 3 * q)) ≤ a7 j then a7 j else a7 (3 * p + (j - 3 * q))) a7 (3 * q) 3 b7 → post 0 (f, a1, a2, a3, a4, a5, a6, b7, b8, b9, b)) :
    wpX_sync post (f, a1, a2, a3, a4, a5, a6, a7, a8, a9, a10) (nI p) (nI q) := by
  unfold wpX_sync
  dsimp only
  refine cz_rep hp (br_f (by decide) (cz_rep hq (br_f (by decide) (br_f ?_ (cz_jAdds hp hq (fun b9 => cz_jAss hp hq hn (fun b hb => cz_jVec hp hq hn (fun b7 b8 hb7 => H b7 b8 b9 b hb hb7))))))))
  intro e
  exact hn ((nI_eq (by omega) (by omega)).mp e)
end
section
/-! ## values and value -/
def cz_n (x : Int32) : Nat := if x ≤ 0 then 0 else 1
def cz_c (g : Nat → Int32) : Nat → Nat
  | 0 => 0
  | i + 1 => cz_c g i + cz_n (g i)
theorem cz_values {post : Int32 → Prop} {f : Int32} {a1 a2 a3 a4 a5 a6 a7 a8 a9 a10 : Nat → Int32} (r : Nat) (hr : r ≤ 2)
    (H : post (nI (cz_c (fun i => a10 (3 * r + i)) 3))) :
    wpX_values post (f, a1, a2, a3, a4, a5, a6, a7, a8, a9, a10) (nI r) := by
  unfold wpX_values
  dsimp only
  refine cz_rep hr (br_f (by decide) (pk_loop (fun n i s => wX_values_13 post (nI r) f a1 a2 a3 a4 a5 a6 a7 a8 a9 a10 n (nI s) (nI i)) (fun i s => s = cz_c (fun i => a10 (3 * r + i)) i) 3 0 0 (by omega) rfl
    (fun n s h => pk_le 3 3 (fun _ => by rw [h]; exact H) (fun z => absurd z (by omega))) (fun n i s hi h hw => pk_le 3 i (fun z => absurd z (by omega)) (fun _ => ?_))))
  rw [cz_3, nI_clamp (show 3 * r + i < 2 ^ 31 by omega)]
  refine ⟨pk_in (3 * r + i) 9 (by omega), br_c (fun g => nm_r (nI_1 i) (hw s ?_)) (fun g => nm_r (nI_1 s) (nm_r (nI_1 i) (hw (s + 1) ?_)))⟩
  · show s = cz_c (fun i => a10 (3 * r + i)) i + cz_n (a10 (3 * r + i))
    rw [cz_n, if_pos g, h]
    rfl
  · show s + 1 = cz_c (fun i => a10 (3 * r + i)) i + cz_n (a10 (3 * r + i))
    rw [cz_n, if_neg g, h]
/-- origin o of replica r holds no value, or the value v -/
def cz_P (r : Nat) (a2 a5 a10 : Nat → Int32) (o : Nat) : Option Int32 → Prop
  | none => a10 (3 * r + o) ≤ 0
  | some v => ¬ a10 (3 * r + o) ≤ 0 ∧ ∃ k c : Nat, k ≤ 48 ∧ c < 48 ∧ a10 (3 * r + o) = nI k ∧ a5 (49 * o + k) = nI c ∧ a2 c = v
theorem cz_vf {post : Int32 → Prop} {f v : Int32} {a1 a2 a3 a4 a5 a6 a7 a8 a9 a10 : Nat → Int32} {r o : Nat} (hr : r ≤ 2) (ho : o < 3) (h : cz_P r a2 a5 a10 o (some v)) (H : post v) :
    wpX_valueFrom post (f, a1, a2, a3, a4, a5, a6, a7, a8, a9, a10) (nI r) (nI o) := by
  obtain ⟨_, k, c, hk, hc, h10, h5, h2⟩ := h
  unfold wpX_valueFrom
  dsimp only
  rw [cz_3, nI_clamp (show 3 * r + o < 2 ^ 31 by omega), h10, cz_49, nI_clamp (show 49 * o + k < 2 ^ 31 by omega), h5]
  refine ⟨pk_in (3 * r + o) 9 (by omega), pk_in (49 * o + k) 147 (by omega), nm_e ⟨pk_in c 48 hc, ?_⟩⟩
  rw [nI_clamp (show c < 2 ^ 31 by omega), h2]
  exact H
/-- what origin q adds to the place of origin o's value x -/
def cz_d (pv : Nat → Option Int32) (o : Nat) (x : Int32) (q : Nat) : Nat :=
  if q = o then 0 else match pv q with
    | none => 0
    | some y => if y < x then 1 else if y = x then (if o ≤ q then 0 else 1) else 0
def cz_st (pv : Nat → Option Int32) (o : Nat) (x : Int32) : Nat → Nat
  | 0 => 0
  | q + 1 => cz_st pv o x q + cz_d pv o x q
theorem cz_d0 {pv : Nat → Option Int32} {o q : Nat} {x : Int32} (h : q = o) : cz_d pv o x q = 0 := by
  rw [cz_d, if_pos h]
theorem cz_dn {pv : Nat → Option Int32} {o q : Nat} {x : Int32} (h : q ≠ o) (hv : pv q = none) : cz_d pv o x q = 0 := by
  rw [cz_d, if_neg h, hv]
theorem cz_ds {pv : Nat → Option Int32} {o q : Nat} {x y : Int32} (h : q ≠ o) (hv : pv q = some y) : cz_d pv o x q = if y < x then 1 else if y = x then (if o ≤ q then 0 else 1) else 0 := by
  rw [cz_d, if_neg h, hv]
theorem cz_place {post : Int32 → Prop} {f x : Int32} {a1 a2 a3 a4 a5 a6 a7 a8 a9 a10 : Nat → Int32} {r o : Nat} {pv : Nat → Option Int32} (hr : r ≤ 2) (ho : o < 3) (hP : ∀ q, q < 3 → cz_P r a2 a5 a10 q (pv q)) (hx : pv o = some x)
    (H : post (nI (cz_st pv o x 3))) :
    wpX_placeOfValue post (f, a1, a2, a3, a4, a5, a6, a7, a8, a9, a10) (nI r) (nI o) := by
  unfold wpX_placeOfValue
  dsimp only
  have hox : cz_P r a2 a5 a10 o (some x) := by
    rw [← hx]
    exact hP o ho
  refine cz_vf hr ho hox (pk_loop (fun n i s => wX_placeOfValue_13 post (nI r) (nI o) x f a1 a2 a3 a4 a5 a6 a7 a8 a9 a10 n (nI s) (nI i)) (fun i s => s = cz_st pv o x i) 3 0 0 (by omega) rfl
    (fun n s h => pk_le 3 3 (fun _ => by rw [h]; exact H) (fun z => absurd z (by omega))) (fun n i s hi h hw => pk_le 3 i (fun z => absurd z (by omega)) (fun _ => ?_)))
  have k0 : cz_d pv o x i = 0 → wX_placeOfValue_13 post (nI r) (nI o) x f a1 a2 a3 a4 a5 a6 a7 a8 a9 a10 n (nI s) (nI (i + 1)) := fun e => hw s (by
    show s = cz_st pv o x i + cz_d pv o x i
    rw [e, h]
    rfl)
  have k1 : cz_d pv o x i = 1 → wX_placeOfValue_13 post (nI r) (nI o) x f a1 a2 a3 a4 a5 a6 a7 a8 a9 a10 n (nI (s + 1)) (nI (i + 1)) := fun e => hw (s + 1) (by
    show s + 1 = cz_st pv o x i + cz_d pv o x i
    rw [e, h])
  refine pk_eq i o (fun e => nm_r (nI_1 i) (k0 (cz_d0 e))) (fun e => ?_)
  rw [cz_3, nI_clamp (show 3 * r + i < 2 ^ 31 by omega)]
  refine ⟨pk_in (3 * r + i) 9 (by omega), ?_⟩
  have hi' := hP i hi
  cases hv : pv i with
  | none =>
    rw [hv] at hi'
    exact br_t hi' (nm_r (nI_1 i) (k0 (cz_dn e hv)))
  | some y =>
    rw [hv] at hi'
    have ed := cz_ds (x := x) e hv
    refine br_f hi'.1 (cz_vf hr hi hi' (br_c (fun g => nm_r (nI_1 s) (nm_r (nI_1 i) (k1 (by rw [ed, if_pos g])))) (fun g => br_c (fun g2 => pk_le o i (fun g3 => nm_r (nI_1 i) (k0 ?_)) (fun g3 => nm_r (nI_1 s) (nm_r (nI_1 i) (k1 ?_)))) (fun g2 => nm_r (nI_1 i) (k0 ?_)))))
    · rw [ed, if_neg g, if_pos g2, if_pos g3]
    · rw [ed, if_neg g, if_pos g2, if_neg (by omega)]
    · rw [ed, if_neg g, if_neg g2]
/-- one turn of value's loop -/
def cz_v1 (pv : Nat → Option Int32) (p : Int32) (i : Nat) (rest : Int32) : Int32 :=
  match pv i with
  | none => rest
  | some x => if nI (cz_st pv i x 3) = p then x else rest
theorem cz_v1n {pv : Nat → Option Int32} {p rest : Int32} {i : Nat} (hv : pv i = none) : cz_v1 pv p i rest = rest := by
  rw [cz_v1, hv]
theorem cz_v1s {pv : Nat → Option Int32} {p rest x : Int32} {i : Nat} (hv : pv i = some x) : cz_v1 pv p i rest = if nI (cz_st pv i x 3) = p then x else rest := by
  rw [cz_v1, hv]
theorem cz_vt {post : Int32 → Prop} {f p rest : Int32} {a1 a2 a3 a4 a5 a6 a7 a8 a9 a10 : Nat → Int32} {r i n : Nat} {pv : Nat → Option Int32} (hr : r ≤ 2) (hi : i < 3) (hP : ∀ q, q < 3 → cz_P r a2 a5 a10 q (pv q))
    (H : post (cz_v1 pv p i rest)) (hn : post rest → wX_value_11 post (nI r) p f a1 a2 a3 a4 a5 a6 a7 a8 a9 a10 n (nI (i + 1))) :
    wX_value_11 post (nI r) p f a1 a2 a3 a4 a5 a6 a7 a8 a9 a10 (n + 1) (nI i) := by
  refine pk_le 3 i (fun z => absurd z (by omega)) (fun _ => ?_)
  rw [cz_3, nI_clamp (show 3 * r + i < 2 ^ 31 by omega)]
  refine ⟨pk_in (3 * r + i) 9 (by omega), ?_⟩
  have hi' := hP i hi
  cases hv : pv i with
  | none =>
    rw [hv] at hi'
    rw [cz_v1n hv] at H
    exact br_t hi' (nm_r (nI_1 i) (hn H))
  | some x =>
    rw [hv] at hi'
    rw [cz_v1s hv] at H
    refine br_f hi'.1 (cz_place hr hi hP hv (br_c (fun g => cz_vf hr hi hi' ?_) (fun g => nm_r (nI_1 i) (hn ?_))))
    · rw [if_pos g] at H
      exact H
    · rw [if_neg g] at H
      exact H
theorem cz_value {post : Int32 → Prop} {f p : Int32} {a1 a2 a3 a4 a5 a6 a7 a8 a9 a10 : Nat → Int32} (r : Nat) (pv : Nat → Option Int32) (hr : r ≤ 2) (hP : ∀ q, q < 3 → cz_P r a2 a5 a10 q (pv q))
    (H : post (cz_v1 pv p 0 (cz_v1 pv p 1 (cz_v1 pv p 2 0)))) :
    wpX_value post (f, a1, a2, a3, a4, a5, a6, a7, a8, a9, a10) (nI r) p := by
  unfold wpX_value
  dsimp only
  exact cz_rep hr (br_f (by decide) ⟨4, cz_vt (i := 0) hr (by omega) hP H (fun H => cz_vt (i := 1) hr (by omega) hP H (fun H => cz_vt (i := 2) hr (by omega) hP H (fun H => pk_le 3 3 (fun _ => H) (fun z => absurd z (by omega)))))⟩)
end
section
/-! ## the plain law: the values of a row, in order -/
/-- a row's three origins -/
def cz_p3 (x y z : Option Int32) : Nat → Option Int32
  | 0 => x
  | 1 => y
  | _ => z
theorem cz_P3 {r : Nat} {a2 a5 a10 : Nat → Int32} {x y z : Option Int32} (h0 : cz_P r a2 a5 a10 0 x) (h1 : cz_P r a2 a5 a10 1 y) (h2 : cz_P r a2 a5 a10 2 z) : ∀ q, q < 3 → cz_P r a2 a5 a10 q (cz_p3 x y z q) :=
  fun q hq => co_3 (P := fun q => cz_P r a2 a5 a10 q (cz_p3 x y z q)) h0 h1 h2 hq
theorem cz_e0 (x y : Int32) : cz_st (cz_p3 (some x) (some y) none) 0 x 3 = if y < x then 1 else 0 := by
  show 0 + 0 + (if y < x then 1 else if y = x then (if 0 ≤ 1 then 0 else 1) else 0) + 0 = if y < x then 1 else 0
  by_cases h : y < x
  · rw [if_pos h, if_pos h]
  · rw [if_neg h, if_neg h]
    by_cases g : y = x
    · rw [if_pos g]
      rfl
    · rw [if_neg g]
theorem cz_e1 (x y : Int32) : cz_st (cz_p3 (some x) (some y) none) 1 y 3 = if y < x then 0 else 1 := by
  show 0 + (if x < y then 1 else if x = y then (if 1 ≤ 0 then 0 else 1) else 0) + 0 + 0 = if y < x then 0 else 1
  by_cases h : x < y
  · rw [if_pos h, if_neg (by rw [Int32.lt_iff_toInt_lt] at h ⊢; omega)]
  · rw [if_neg h]
    by_cases g : x = y
    · have g' : ¬ y < x := by
        rw [g, Int32.lt_iff_toInt_lt]
        omega
      rw [if_pos g, if_neg g', if_neg (show ¬ 1 ≤ 0 by omega)]
    · have g' : x.toInt ≠ y.toInt := fun e => g (Int32.toInt_inj.mp e)
      rw [if_neg g, if_pos (by rw [Int32.lt_iff_toInt_lt] at h ⊢; omega)]
/-- two values of a row: the lower at place 0, the higher at place 1, none elsewhere -/
theorem cz_two (x y p : Int32) : cz_v1 (cz_p3 (some x) (some y) none) p 0 (cz_v1 (cz_p3 (some x) (some y) none) p 1 (cz_v1 (cz_p3 (some x) (some y) none) p 2 0))
    = if p = 0 then (if y ≤ x then y else x) else if p = 1 then (if y ≤ x then x else y) else 0 := by
  rw [cz_v1s (x := x) rfl, cz_v1s (x := y) rfl, cz_v1n rfl, cz_e0, cz_e1]
  by_cases h : y < x
  · have h' : y ≤ x := by
      rw [Int32.lt_iff_toInt_lt] at h
      rw [Int32.le_iff_toInt_le]
      omega
    rw [if_pos h, if_pos h, if_pos h', if_pos h']
    by_cases p0 : p = 0
    · rw [p0]
      rfl
    · rw [if_neg p0]
      by_cases p1 : p = 1
      · rw [p1]
        rfl
      · rw [if_neg p1, if_neg (fun e => p1 e.symm), if_neg (fun e => p0 e.symm)]
  · rw [if_neg h, if_neg h]
    have lo : (if y ≤ x then y else x) = x := by
      by_cases g : y ≤ x
      · rw [if_pos g]
        rw [Int32.lt_iff_toInt_lt] at h
        rw [Int32.le_iff_toInt_le] at g
        exact Int32.toInt_inj.mp (by omega)
      · rw [if_neg g]
    have hi : (if y ≤ x then x else y) = y := by
      by_cases g : y ≤ x
      · rw [if_pos g]
        rw [Int32.lt_iff_toInt_lt] at h
        rw [Int32.le_iff_toInt_le] at g
        exact Int32.toInt_inj.mp (by omega)
      · rw [if_neg g]
    rw [lo, hi]
    by_cases p0 : p = 0
    · rw [p0]
      rfl
    · rw [if_neg p0, if_neg (fun e => p0 e.symm)]
      by_cases p1 : p = 1
      · rw [p1]
        rfl
      · rw [if_neg p1, if_neg (fun e => p1 e.symm)]
theorem cz_one0 (x : Int32) : cz_v1 (cz_p3 (some x) none none) 0 0 (cz_v1 (cz_p3 (some x) none none) 0 1 (cz_v1 (cz_p3 (some x) none none) 0 2 0)) = x := by
  rw [cz_v1s (x := x) rfl]
  exact if_pos rfl
theorem cz_one1 (x : Int32) : cz_v1 (cz_p3 none (some x) none) 0 0 (cz_v1 (cz_p3 none (some x) none) 0 1 (cz_v1 (cz_p3 none (some x) none) 0 2 0)) = x := by
  rw [cz_v1n rfl, cz_v1s (x := x) rfl]
  exact if_pos rfl
theorem cz_valw {post : Int32 → Prop} {f p w : Int32} {a1 a2 a3 a4 a5 a6 a7 a8 a9 a10 : Nat → Int32} (r : Nat) (x y z : Option Int32) (hr : r ≤ 2) (h0 : cz_P r a2 a5 a10 0 x) (h1 : cz_P r a2 a5 a10 1 y) (h2 : cz_P r a2 a5 a10 2 z)
    (hv : cz_v1 (cz_p3 x y z) p 0 (cz_v1 (cz_p3 x y z) p 1 (cz_v1 (cz_p3 x y z) p 2 0)) = w) (H : post w) :
    wpX_value post (f, a1, a2, a3, a4, a5, a6, a7, a8, a9, a10) (nI r) p :=
  cz_value r (cz_p3 x y z) hr (cz_P3 h0 h1 h2) (by rw [hv]; exact H)
theorem cz_valsw {post : Int32 → Prop} {f x y z : Int32} {a1 a2 a3 a4 a5 a6 a7 a8 a9 a10 : Nat → Int32} (r : Nat) (hr : r ≤ 2) (h0 : a10 (3 * r + 0) = x) (h1 : a10 (3 * r + 1) = y) (h2 : a10 (3 * r + 2) = z)
    (H : post (nI (cz_n x + cz_n y + cz_n z))) :
    wpX_values post (f, a1, a2, a3, a4, a5, a6, a7, a8, a9, a10) (nI r) := by
  refine cz_values r hr ?_
  have e : cz_c (fun i => a10 (3 * r + i)) 3 = cz_n x + cz_n y + cz_n z := by
    show 0 + cz_n (a10 (3 * r + 0)) + cz_n (a10 (3 * r + 1)) + cz_n (a10 (3 * r + 2)) = _
    rw [h0, h1, h2, Nat.zero_add]
  rw [e]
  exact H
end
section
/-! ## the law, from its end on -/
/-- behind sync: replica 0 holds one, replica 1 holds one and two, and knows both -/
def cz_K (one two : Int32) (a2 a4 a5 a7 a10 : Nat → Int32) : Prop :=
  (a2 0 = one ∧ a2 1 = two ∧ a4 1 = nI 1 ∧ a5 1 = nI 0 ∧ a5 50 = nI 1) ∧ (a7 3 = 1 ∧ a7 4 = 1 ∧ a7 5 = 0) ∧ (a10 0 = 1 ∧ a10 1 = 0 ∧ a10 2 = 0) ∧ (a10 3 = 1 ∧ a10 4 = 1 ∧ a10 5 = 0)
theorem cz_none {r o : Nat} {a2 a5 a10 : Nat → Int32} (h : a10 (3 * r + o) = 0) : cz_P r a2 a5 a10 o none := by
  show a10 (3 * r + o) ≤ 0
  rw [h]
  decide
theorem cz_some {r o : Nat} {v : Int32} {a2 a5 a10 : Nat → Int32} (k c : Nat) (h0 : 0 < k) (hk : k ≤ 48) (hc : c < 48) (h : a10 (3 * r + o) = nI k) (h5 : a5 (49 * o + k) = nI c) (h2 : a2 c = v) : cz_P r a2 a5 a10 o (some v) := by
  refine ⟨?_, k, c, hk, hc, h, h5, h2⟩
  rw [h]
  exact nI_nle h0 (by omega)
theorem cz_116 {mc ms kc ks : Nat} {one two three z : Int32} {a1 a2 a3 a4 a5 a6 a7 a8 a9 a10 : Nat → Int32} (K : cz_K one two a2 a4 a5 a7 a10) :
    wL_lawOf_116 (fun r _ => r = 1) mc ms one three z z kc ks (nI 2) a1 a2 a3 a4 a5 a6 a7 a8 a9 a10 := by
  obtain ⟨⟨p0, p1, p4, p5, p50⟩, ⟨k3, k4, k5⟩, ⟨l0, l1, l2⟩, ⟨l3, l4, l5⟩⟩ := K
  unfold wL_lawOf_116
  refine br_t rfl (cz_assign 1 2 1 (by omega) (by omega) (by omega) p4 (fun b1 b3 b6 b hb => ?_))
  have m0 : b 0 = 1 := by rw [hb 0, if_neg (by omega)]; exact l0
  have m1 : b 1 = 0 := by rw [hb 1, if_neg (by omega)]; exact l1
  have m2 : b 2 = 0 := by rw [hb 2, if_neg (by omega)]; exact l2
  have m3 : b 3 = 0 := by
    rw [hb 3, if_pos (by omega)]
    show (if a7 3 < a10 3 then a10 3 else 0) = 0
    rw [k3, l3]
    decide
  have m5 : b 5 = 0 := by
    rw [hb 5, if_pos (by omega)]
    show (if a7 5 < a10 5 then a10 5 else 0) = 0
    rw [k5, l5]
    decide
  have n0 : upd b (3 * 1 + 1) (nI (1 + 1)) (3 * 0 + 0) = nI 1 := by rw [pk_un (by omega)]; exact m0
  have n1 : upd b (3 * 1 + 1) (nI (1 + 1)) (3 * 0 + 1) = 0 := by rw [pk_un (by omega)]; exact m1
  have n2 : upd b (3 * 1 + 1) (nI (1 + 1)) (3 * 0 + 2) = 0 := by rw [pk_un (by omega)]; exact m2
  have n3 : upd b (3 * 1 + 1) (nI (1 + 1)) (3 * 1 + 0) = 0 := by rw [pk_un (by omega)]; exact m3
  have n4 : upd b (3 * 1 + 1) (nI (1 + 1)) (3 * 1 + 1) = nI 2 := pk_us
  have n5 : upd b (3 * 1 + 1) (nI (1 + 1)) (3 * 1 + 2) = 0 := by rw [pk_un (by omega)]; exact m5
  have q1 : upd a5 (49 * 1 + (1 + 1)) (nI 2) (49 * 0 + 1) = nI 0 := by rw [pk_un (by omega)]; exact p5
  have q51 : upd a5 (49 * 1 + (1 + 1)) (nI 2) (49 * 1 + 2) = nI 2 := pk_us
  have r0 : upd a2 2 three 0 = one := by rw [pk_un (by omega)]; exact p0
  have r2 : upd a2 2 three 2 = three := pk_us
  refine br_t rfl (cz_valsw 1 (by omega) n3 n4 n5 (br_t (by decide) ?_))
  refine cz_valw 1 none (some three) none (by omega) (cz_none n3) (cz_some 2 2 (by omega) (by omega) (by omega) n4 q51 r2) (cz_none n5) (cz_one1 three) (br_t rfl ?_)
  exact cz_valw 0 (some one) none none (by omega) (cz_some 1 0 (by omega) (by omega) (by omega) n0 q1 r0) (cz_none n1) (cz_none n2) (cz_one0 one) (br_t rfl rfl)
theorem cz_87 {mc ms kc ks : Nat} {one two three place : Int32} {a1 a2 a3 a4 a5 a6 a7 a8 a9 a10 : Nat → Int32} (K : cz_K one two a2 a4 a5 a7 a10) (lo hi : Int32) (hl : (if two ≤ one then two else one) = lo) (hh : (if two ≤ one then one else two) = hi) :
    wL_lawOf_87 (fun r _ => r = 1) mc ms one three place lo hi kc ks (nI 2) a1 a2 a3 a4 a5 a6 a7 a8 a9 a10 := by
  have K' := K
  obtain ⟨⟨p0, p1, p4, p5, p50⟩, ⟨k3, k4, k5⟩, ⟨l0, l1, l2⟩, ⟨l3, l4, l5⟩⟩ := K
  unfold wL_lawOf_87
  refine cz_valw 1 (some one) (some two) none (by omega) (cz_some 1 0 (by omega) (by omega) (by omega) l3 p5 p0) (cz_some 1 1 (by omega) (by omega) (by omega) l4 p50 p1) (cz_none l5) (cz_two one two place) ?_
  rw [hl, hh]
  refine br_c (fun g => ?_) (fun g => br_c (fun g2 => ?_) (fun g2 => ?_))
  · rw [if_pos g]
    exact cz_116 K'
  · rw [if_neg g, if_pos g2]
    exact cz_116 K'
  · rw [if_neg g, if_neg g2]
    exact cz_116 K'
theorem cz_75 {mc ms kc ks : Nat} {one two three place : Int32} {a1 a2 a3 a4 a5 a6 a7 a8 a9 a10 : Nat → Int32} (K : cz_K one two a2 a4 a5 a7 a10) (lo : Int32) (hl : (if two ≤ one then two else one) = lo) :
    wL_lawOf_75 (fun r _ => r = 1) mc ms one two three place lo kc ks (nI 2) a1 a2 a3 a4 a5 a6 a7 a8 a9 a10 := by
  unfold wL_lawOf_75
  exact br_c (fun g => cz_87 K lo one hl (if_pos g)) (fun g => cz_87 K lo two hl (if_neg g))
theorem cz_lawOf (one two three place : Int32) : wpL_lawOf (fun r _ => r = 1) 348 5568 () one two three place := by
  unfold wpL_lawOf
  refine ⟨by decide, by decide, 347, 5557, by decide, by decide, ?_⟩
  unfold wpX_init
  refine ⟨by decide, by decide, by decide, by decide, by decide, by decide, by decide, by decide, by decide, by decide, by decide, by decide, by decide, by decide, by decide, by decide, by decide, by decide, by decide, by decide, ?_⟩
  refine cz_assign 0 0 0 (by omega) (by omega) (by omega) rfl (fun b1 b3 b6 b hb => ?_)
  obtain rfl := funext hb
  refine br_t rfl (cz_assign 1 1 0 (by omega) (by omega) (by omega) rfl (fun c1 c3 c6 c hc => ?_))
  obtain rfl := funext hc
  refine br_t rfl (cz_sync 0 1 (by omega) (by omega) (by omega) (fun d7 d8 d9 d hd hd7 => ?_))
  obtain rfl := funext hd
  obtain rfl := funext hd7
  refine br_t rfl (cz_valsw (x := 1) (y := 0) (z := 0) 0 (by omega) (by decide) (by decide) (by decide) (br_t (by decide) ?_))
  refine cz_valsw (x := 1) (y := 1) (z := 0) 1 (by omega) (by decide) (by decide) (by decide) (br_t (by decide) ?_)
  refine br_c (fun g => cz_75 ?_ two (if_pos g)) (fun g => cz_75 ?_ one (if_neg g))
  · exact ⟨⟨rfl, rfl, by decide, by decide, by decide⟩, ⟨by decide, by decide, by decide⟩, ⟨by decide, by decide, by decide⟩, ⟨by decide, by decide, by decide⟩⟩
  · exact ⟨⟨rfl, rfl, by decide, by decide, by decide⟩, ⟨by decide, by decide, by decide⟩, ⟨by decide, by decide, by decide⟩, ⟨by decide, by decide, by decide⟩⟩
theorem i_vc (xs : Nat → Int32) (L : Nat) (hL : L ≤ 4) : wpL_law (fun r => r = 1) L xs := by
  unfold wpL_law
  exact cz_cell 0 (by omega) hL (fun one => cz_cell 1 (by omega) hL (fun two => cz_cell 2 (by omega) hL (fun three => cz_cell 3 (by omega) hL (fun place => ⟨348, 5568, by decide, by decide, cz_lawOf one two three place⟩))))
end
