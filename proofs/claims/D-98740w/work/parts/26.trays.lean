/-! the component: trays -/
def kdO (so : Nat) : Nat := match so with
  | 0 => 1
  | 1 => 4
  | 2 => 0
  | _ => 3
def tval (μ : zM) (b so k : Nat) : Int64 := if so = 3 then zJ μ b k else (zI μ b k).toInt64
def cutN (so : Nat) (v : Int64) : Int64 := if so = 0 then ((v.toInt32).toInt8.toInt32).toInt64 else if so = 1 then ((v.toInt32).toInt16.toInt32).toInt64 else if so = 2 then (v.toInt32).toInt64 else v
section CH
variable {z : Nat} {μ : zM} {o b so n : Nat}
theorem zhd_of (h0 : zR μ o 0 = some b) (hb : zty μ b = some (.inr (kdO so, n))) (hso : so ≤ 3) : zhd μ (zR μ o 0) := by
  intro c hc
  rw [h0] at hc
  cases hc
  refine ⟨_, _, hb, ?_⟩
  rcases (show so = 0 ∨ so = 1 ∨ so = 2 ∨ so = 3 by omega) with rfl | rfl | rfl | rfl <;> simp [kdO]
theorem zio_of (h0 : zR μ o 0 = some b) (hb : zty μ b = some (.inr (kdO so, n))) (k : Nat) : zio μ (zR μ o 0) k = if kdO so = k then 1 else 0 := by
  rw [h0]
  unfold zio
  dsimp only
  rw [hb]
theorem c_many (ho : zty μ o = some (.inl 3)) (h0 : zR μ o 0 = some b) (hb : zty μ b = some (.inr (kdO so, n))) (hso : so ≤ 3) {Q : Int32 → zM → Prop} (hq : Q (nI n) μ) : pX3_many z o μ Q := by
  have hd := zhd_of h0 hb hso
  have hi := zio_of h0 hb
  refine ⟨ho, hd, ?_⟩
  rcases (show so = 0 ∨ so = 1 ∨ so = 2 ∨ so = 3 by omega) with rfl | rfl | rfl | rfl
  · rw [hi, if_neg (by decide)]
    exact ⟨b, n, h0, hb, hq⟩
  · rw [hi, if_pos (by decide)]
    refine ⟨hd, ?_⟩
    rw [hi, if_neg (by decide)]
    exact ⟨b, n, h0, hb, hq⟩
  · rw [hi, if_pos (by decide)]
    refine ⟨hd, ?_⟩
    rw [hi, if_pos (by decide)]
    refine ⟨hd, ?_⟩
    rw [hi, if_neg (by decide)]
    exact ⟨b, n, h0, hb, hq⟩
  · rw [hi, if_pos (by decide)]
    refine ⟨hd, ?_⟩
    rw [hi, if_pos (by decide)]
    refine ⟨hd, ?_⟩
    rw [hi, if_pos (by decide)]
    exact ⟨b, n, h0, hb, hq⟩
theorem c_number (ho : zty μ o = some (.inl 3)) (h0 : zR μ o 0 = some b) (hb : zty μ b = some (.inr (kdO so, n))) (hso : so ≤ 3) {x : Int32} (hx : vp_in x n) {Q : Int64 → zM → Prop} (hq : Q (tval μ b so x.toNatClampNeg) μ) : pX3_number z o x μ Q := by
  have hd := zhd_of h0 hb hso
  have hi := zio_of h0 hb
  refine ⟨ho, hd, ?_⟩
  rcases (show so = 0 ∨ so = 1 ∨ so = 2 ∨ so = 3 by omega) with rfl | rfl | rfl | rfl
  · rw [hi, if_neg (by decide)]
    exact ⟨b, n, h0, hb, hx, hq⟩
  · rw [hi, if_pos (by decide)]
    refine ⟨hd, ?_⟩
    rw [hi, if_neg (by decide)]
    exact ⟨b, n, h0, hb, hx, hq⟩
  · rw [hi, if_pos (by decide)]
    refine ⟨hd, ?_⟩
    rw [hi, if_pos (by decide)]
    refine ⟨hd, ?_⟩
    rw [hi, if_neg (by decide)]
    exact ⟨b, n, h0, hb, hx, hq⟩
  · rw [hi, if_pos (by decide)]
    refine ⟨hd, ?_⟩
    rw [hi, if_pos (by decide)]
    refine ⟨hd, ?_⟩
    rw [hi, if_pos (by decide)]
    exact ⟨b, n, h0, hb, hx, hq⟩
theorem c_puts (ho : zty μ o = some (.inl 3)) (h0 : zR μ o 0 = some b) (hb : zty μ b = some (.inr (kdO so, n))) (hso : so ≤ 3) {x : Int32} (hx : vp_in x n) {v : Int64} {Q : zM → Prop} (hq : ∀ μ', zOff (fun y k => y = b ∧ k = x.toNatClampNeg) μ μ' → tval μ' b so x.toNatClampNeg = cutN so v → Q μ') : pX3_puts z o x v μ Q := by
  have hd := zhd_of h0 hb hso
  have hi := zio_of h0 hb
  refine ⟨ho, hd, ?_⟩
  unfold zpI zpJ
  have sv : ∀ w, zOff (fun y k => y = b ∧ k = x.toNatClampNeg) μ (zsI μ b x.toNatClampNeg w) := fun w => zOff.sI ⟨rfl, rfl⟩
  rcases (show so = 0 ∨ so = 1 ∨ so = 2 ∨ so = 3 by omega) with rfl | rfl | rfl | rfl
  · rw [hi, if_neg (by decide)]
    refine ⟨b, n, h0, hb, hx, hq _ (sv _) ?_⟩
    unfold tval
    rw [if_neg (by decide), zI_sI, if_pos ⟨rfl, rfl⟩]
    unfold vp_nar
    rw [pk_nb]
    rfl
  · rw [hi, if_pos (by decide)]
    refine ⟨hd, ?_⟩
    rw [hi, if_neg (by decide)]
    refine ⟨b, n, h0, hb, hx, hq _ (sv _) ?_⟩
    unfold tval
    rw [if_neg (by decide), zI_sI, if_pos ⟨rfl, rfl⟩]
    unfold vp_nar
    rw [pk_ns]
    rfl
  · rw [hi, if_pos (by decide)]
    refine ⟨hd, ?_⟩
    rw [hi, if_pos (by decide)]
    refine ⟨hd, ?_⟩
    rw [hi, if_neg (by decide)]
    refine ⟨b, n, h0, hb, hx, hq _ (sv _) ?_⟩
    unfold tval
    rw [if_neg (by decide), zI_sI, if_pos ⟨rfl, rfl⟩]
    rfl
  · rw [hi, if_pos (by decide)]
    refine ⟨hd, ?_⟩
    rw [hi, if_pos (by decide)]
    refine ⟨hd, ?_⟩
    rw [hi, if_pos (by decide)]
    refine ⟨b, n, h0, hb, hx, hq _ (zOff.sJ ⟨rfl, rfl⟩) ?_⟩
    unfold tval
    rw [if_pos rfl, zJ_sJ, if_pos ⟨rfl, rfl⟩]
    rfl
end CH
