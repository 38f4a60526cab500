/-! THE MODEL'S LAYOUT (printed by gen/model.py): the object 1547, its arrays behind it -/
def mkdL : List Nat := [6, 100, 100, 102, 102, 102, 102, 102, 102, 102, 102, 102, 102, 102, 102, 102, 102, 102, 102, 102, 102, 102, 102, 102, 102, 102, 102, 102, 102, 102, 100, 103, 100, 100, 100, 100, 100, 100, 100, 100, 100, 100, 100, 100, 100, 100, 100, 100, 102, 102, 102, 102, 102, 102, 102, 102, 102, 102, 102, 102, 102, 102, 102, 102, 102, 102, 102, 102, 102, 102, 102, 102, 102, 100, 100, 103, 100]
def mlnL : List Nat := [0, 1600, 6, 3, 4, 6, 4, 2, 4, 5, 4, 5, 5, 7, 6, 5, 4, 3, 4, 4, 6, 5, 6, 5, 2, 3, 3, 3, 3, 3, 8, 60, 24, 40, 12, 8, 8, 3200, 166, 45, 6, 6, 3, 16, 180, 48, 930, 3320, 5, 4, 5, 5, 4, 5, 3, 3, 2, 3, 3, 3, 6, 4, 4, 4, 3, 4, 6, 4, 5, 6, 5, 4, 6, 1700, 1700, 1700, 53]
def mkd (i : Nat) : Nat := if i < 1547 then 0 else mkdL.getD (i - 1547) 0
def mln (i : Nat) : Nat := mlnL.getD (i - 1547) 0
/-- the id of an array field of the model -/
def mar (k : Nat) : Nat := ([1548, 0, 0, 0, 0, 0, 0, 0, 0, 1549, 0, 1550, 1551, 1552, 1553, 1554, 1555, 1556, 1557, 1558, 1559, 1560, 1561, 1562, 1563, 1564, 1565, 1566, 1567, 1568, 1569, 1570, 1571, 1572, 1573, 1574, 1575, 1576, 0, 1577, 1578, 1579, 1580, 1581, 1582, 1583, 1584, 0, 0, 0, 1585, 1586, 0, 0, 0, 0, 1587, 1588, 0, 0, 0, 1589, 1590, 1591, 0, 1592, 1593, 1594, 0, 0, 0, 1595, 1596, 1597, 1598, 1599, 1600, 1601, 1602, 1603, 1604, 1605, 1606, 1607, 1608, 1609, 1610, 1611, 1612, 1613, 1614, 1615, 1616, 1617, 1618, 1619, 1620, 0, 1621, 0, 0, 0, 1622, 0, 0, 0, 1623, 0] : List Nat).getD k 0
/-- the model lies where it was made -/
def jMW (K : jK) (cr : jR) : Prop := (∀ i, mkd i ≠ 0 → K.1 i = mkd i ∧ K.2.1 i = mln i ∧ i < K.2.2) ∧ ∀ k, k < 108 → mar k ≠ 0 → cr 1547 k = some (mar k)
theorem jMW.k {K : jK} {cr : jR} (hM : jMW K cr) {w t : Nat} (h : mkd w = t + 1) : K.1 w = t + 1 := ((hM.1 w (by rw [h]; exact Nat.succ_ne_zero t)).1).trans h
theorem jMW.n {K : jK} {cr : jR} (hM : jMW K cr) {w t : Nat} (h : mkd w = t + 1) : K.2.1 w = mln w := (hM.1 w (by rw [h]; exact Nat.succ_ne_zero t)).2.1
theorem jMW.l {K : jK} {cr : jR} (hM : jMW K cr) {w t : Nat} (h : mkd w = t + 1) : w < K.2.2 := (hM.1 w (by rw [h]; exact Nat.succ_ne_zero t)).2.2
theorem hk1547 {K : jK} {cr : jR} (hM : jMW K cr) : K.1 1547 = 6 := (hM.1 1547 (by decide)).1
theorem hl1547 {K : jK} {cr : jR} (hM : jMW K cr) : 1547 < K.2.2 := (hM.1 1547 (by decide)).2.2
theorem hn1547 {K : jK} {cr : jR} (hM : jMW K cr) : K.2.1 1547 = 0 := (hM.1 1547 (by decide)).2.1
theorem hk1548 {K : jK} {cr : jR} (hM : jMW K cr) : K.1 1548 = 100 := (hM.1 1548 (by decide)).1
theorem hl1548 {K : jK} {cr : jR} (hM : jMW K cr) : 1548 < K.2.2 := (hM.1 1548 (by decide)).2.2
theorem hn1548 {K : jK} {cr : jR} (hM : jMW K cr) : K.2.1 1548 = 1600 := (hM.1 1548 (by decide)).2.1
theorem hk1549 {K : jK} {cr : jR} (hM : jMW K cr) : K.1 1549 = 100 := (hM.1 1549 (by decide)).1
theorem hl1549 {K : jK} {cr : jR} (hM : jMW K cr) : 1549 < K.2.2 := (hM.1 1549 (by decide)).2.2
theorem hn1549 {K : jK} {cr : jR} (hM : jMW K cr) : K.2.1 1549 = 6 := (hM.1 1549 (by decide)).2.1
theorem hk1550 {K : jK} {cr : jR} (hM : jMW K cr) : K.1 1550 = 102 := (hM.1 1550 (by decide)).1
theorem hl1550 {K : jK} {cr : jR} (hM : jMW K cr) : 1550 < K.2.2 := (hM.1 1550 (by decide)).2.2
theorem hn1550 {K : jK} {cr : jR} (hM : jMW K cr) : K.2.1 1550 = 3 := (hM.1 1550 (by decide)).2.1
theorem hk1551 {K : jK} {cr : jR} (hM : jMW K cr) : K.1 1551 = 102 := (hM.1 1551 (by decide)).1
theorem hl1551 {K : jK} {cr : jR} (hM : jMW K cr) : 1551 < K.2.2 := (hM.1 1551 (by decide)).2.2
theorem hn1551 {K : jK} {cr : jR} (hM : jMW K cr) : K.2.1 1551 = 4 := (hM.1 1551 (by decide)).2.1
theorem hk1552 {K : jK} {cr : jR} (hM : jMW K cr) : K.1 1552 = 102 := (hM.1 1552 (by decide)).1
theorem hl1552 {K : jK} {cr : jR} (hM : jMW K cr) : 1552 < K.2.2 := (hM.1 1552 (by decide)).2.2
theorem hn1552 {K : jK} {cr : jR} (hM : jMW K cr) : K.2.1 1552 = 6 := (hM.1 1552 (by decide)).2.1
theorem hk1553 {K : jK} {cr : jR} (hM : jMW K cr) : K.1 1553 = 102 := (hM.1 1553 (by decide)).1
theorem hl1553 {K : jK} {cr : jR} (hM : jMW K cr) : 1553 < K.2.2 := (hM.1 1553 (by decide)).2.2
theorem hn1553 {K : jK} {cr : jR} (hM : jMW K cr) : K.2.1 1553 = 4 := (hM.1 1553 (by decide)).2.1
theorem hk1554 {K : jK} {cr : jR} (hM : jMW K cr) : K.1 1554 = 102 := (hM.1 1554 (by decide)).1
theorem hl1554 {K : jK} {cr : jR} (hM : jMW K cr) : 1554 < K.2.2 := (hM.1 1554 (by decide)).2.2
theorem hn1554 {K : jK} {cr : jR} (hM : jMW K cr) : K.2.1 1554 = 2 := (hM.1 1554 (by decide)).2.1
theorem hk1555 {K : jK} {cr : jR} (hM : jMW K cr) : K.1 1555 = 102 := (hM.1 1555 (by decide)).1
theorem hl1555 {K : jK} {cr : jR} (hM : jMW K cr) : 1555 < K.2.2 := (hM.1 1555 (by decide)).2.2
theorem hn1555 {K : jK} {cr : jR} (hM : jMW K cr) : K.2.1 1555 = 4 := (hM.1 1555 (by decide)).2.1
theorem hk1556 {K : jK} {cr : jR} (hM : jMW K cr) : K.1 1556 = 102 := (hM.1 1556 (by decide)).1
theorem hl1556 {K : jK} {cr : jR} (hM : jMW K cr) : 1556 < K.2.2 := (hM.1 1556 (by decide)).2.2
theorem hn1556 {K : jK} {cr : jR} (hM : jMW K cr) : K.2.1 1556 = 5 := (hM.1 1556 (by decide)).2.1
theorem hk1557 {K : jK} {cr : jR} (hM : jMW K cr) : K.1 1557 = 102 := (hM.1 1557 (by decide)).1
theorem hl1557 {K : jK} {cr : jR} (hM : jMW K cr) : 1557 < K.2.2 := (hM.1 1557 (by decide)).2.2
theorem hn1557 {K : jK} {cr : jR} (hM : jMW K cr) : K.2.1 1557 = 4 := (hM.1 1557 (by decide)).2.1
theorem hk1558 {K : jK} {cr : jR} (hM : jMW K cr) : K.1 1558 = 102 := (hM.1 1558 (by decide)).1
theorem hl1558 {K : jK} {cr : jR} (hM : jMW K cr) : 1558 < K.2.2 := (hM.1 1558 (by decide)).2.2
theorem hn1558 {K : jK} {cr : jR} (hM : jMW K cr) : K.2.1 1558 = 5 := (hM.1 1558 (by decide)).2.1
theorem hk1559 {K : jK} {cr : jR} (hM : jMW K cr) : K.1 1559 = 102 := (hM.1 1559 (by decide)).1
theorem hl1559 {K : jK} {cr : jR} (hM : jMW K cr) : 1559 < K.2.2 := (hM.1 1559 (by decide)).2.2
theorem hn1559 {K : jK} {cr : jR} (hM : jMW K cr) : K.2.1 1559 = 5 := (hM.1 1559 (by decide)).2.1
theorem hk1560 {K : jK} {cr : jR} (hM : jMW K cr) : K.1 1560 = 102 := (hM.1 1560 (by decide)).1
theorem hl1560 {K : jK} {cr : jR} (hM : jMW K cr) : 1560 < K.2.2 := (hM.1 1560 (by decide)).2.2
theorem hn1560 {K : jK} {cr : jR} (hM : jMW K cr) : K.2.1 1560 = 7 := (hM.1 1560 (by decide)).2.1
theorem hk1561 {K : jK} {cr : jR} (hM : jMW K cr) : K.1 1561 = 102 := (hM.1 1561 (by decide)).1
theorem hl1561 {K : jK} {cr : jR} (hM : jMW K cr) : 1561 < K.2.2 := (hM.1 1561 (by decide)).2.2
theorem hn1561 {K : jK} {cr : jR} (hM : jMW K cr) : K.2.1 1561 = 6 := (hM.1 1561 (by decide)).2.1
theorem hk1562 {K : jK} {cr : jR} (hM : jMW K cr) : K.1 1562 = 102 := (hM.1 1562 (by decide)).1
theorem hl1562 {K : jK} {cr : jR} (hM : jMW K cr) : 1562 < K.2.2 := (hM.1 1562 (by decide)).2.2
theorem hn1562 {K : jK} {cr : jR} (hM : jMW K cr) : K.2.1 1562 = 5 := (hM.1 1562 (by decide)).2.1
theorem hk1563 {K : jK} {cr : jR} (hM : jMW K cr) : K.1 1563 = 102 := (hM.1 1563 (by decide)).1
theorem hl1563 {K : jK} {cr : jR} (hM : jMW K cr) : 1563 < K.2.2 := (hM.1 1563 (by decide)).2.2
theorem hn1563 {K : jK} {cr : jR} (hM : jMW K cr) : K.2.1 1563 = 4 := (hM.1 1563 (by decide)).2.1
theorem hk1564 {K : jK} {cr : jR} (hM : jMW K cr) : K.1 1564 = 102 := (hM.1 1564 (by decide)).1
theorem hl1564 {K : jK} {cr : jR} (hM : jMW K cr) : 1564 < K.2.2 := (hM.1 1564 (by decide)).2.2
theorem hn1564 {K : jK} {cr : jR} (hM : jMW K cr) : K.2.1 1564 = 3 := (hM.1 1564 (by decide)).2.1
theorem hk1565 {K : jK} {cr : jR} (hM : jMW K cr) : K.1 1565 = 102 := (hM.1 1565 (by decide)).1
theorem hl1565 {K : jK} {cr : jR} (hM : jMW K cr) : 1565 < K.2.2 := (hM.1 1565 (by decide)).2.2
theorem hn1565 {K : jK} {cr : jR} (hM : jMW K cr) : K.2.1 1565 = 4 := (hM.1 1565 (by decide)).2.1
theorem hk1566 {K : jK} {cr : jR} (hM : jMW K cr) : K.1 1566 = 102 := (hM.1 1566 (by decide)).1
theorem hl1566 {K : jK} {cr : jR} (hM : jMW K cr) : 1566 < K.2.2 := (hM.1 1566 (by decide)).2.2
theorem hn1566 {K : jK} {cr : jR} (hM : jMW K cr) : K.2.1 1566 = 4 := (hM.1 1566 (by decide)).2.1
theorem hk1567 {K : jK} {cr : jR} (hM : jMW K cr) : K.1 1567 = 102 := (hM.1 1567 (by decide)).1
theorem hl1567 {K : jK} {cr : jR} (hM : jMW K cr) : 1567 < K.2.2 := (hM.1 1567 (by decide)).2.2
theorem hn1567 {K : jK} {cr : jR} (hM : jMW K cr) : K.2.1 1567 = 6 := (hM.1 1567 (by decide)).2.1
theorem hk1568 {K : jK} {cr : jR} (hM : jMW K cr) : K.1 1568 = 102 := (hM.1 1568 (by decide)).1
theorem hl1568 {K : jK} {cr : jR} (hM : jMW K cr) : 1568 < K.2.2 := (hM.1 1568 (by decide)).2.2
theorem hn1568 {K : jK} {cr : jR} (hM : jMW K cr) : K.2.1 1568 = 5 := (hM.1 1568 (by decide)).2.1
theorem hk1569 {K : jK} {cr : jR} (hM : jMW K cr) : K.1 1569 = 102 := (hM.1 1569 (by decide)).1
theorem hl1569 {K : jK} {cr : jR} (hM : jMW K cr) : 1569 < K.2.2 := (hM.1 1569 (by decide)).2.2
theorem hn1569 {K : jK} {cr : jR} (hM : jMW K cr) : K.2.1 1569 = 6 := (hM.1 1569 (by decide)).2.1
theorem hk1570 {K : jK} {cr : jR} (hM : jMW K cr) : K.1 1570 = 102 := (hM.1 1570 (by decide)).1
theorem hl1570 {K : jK} {cr : jR} (hM : jMW K cr) : 1570 < K.2.2 := (hM.1 1570 (by decide)).2.2
theorem hn1570 {K : jK} {cr : jR} (hM : jMW K cr) : K.2.1 1570 = 5 := (hM.1 1570 (by decide)).2.1
theorem hk1571 {K : jK} {cr : jR} (hM : jMW K cr) : K.1 1571 = 102 := (hM.1 1571 (by decide)).1
theorem hl1571 {K : jK} {cr : jR} (hM : jMW K cr) : 1571 < K.2.2 := (hM.1 1571 (by decide)).2.2
theorem hn1571 {K : jK} {cr : jR} (hM : jMW K cr) : K.2.1 1571 = 2 := (hM.1 1571 (by decide)).2.1
theorem hk1572 {K : jK} {cr : jR} (hM : jMW K cr) : K.1 1572 = 102 := (hM.1 1572 (by decide)).1
theorem hl1572 {K : jK} {cr : jR} (hM : jMW K cr) : 1572 < K.2.2 := (hM.1 1572 (by decide)).2.2
theorem hn1572 {K : jK} {cr : jR} (hM : jMW K cr) : K.2.1 1572 = 3 := (hM.1 1572 (by decide)).2.1
theorem hk1573 {K : jK} {cr : jR} (hM : jMW K cr) : K.1 1573 = 102 := (hM.1 1573 (by decide)).1
theorem hl1573 {K : jK} {cr : jR} (hM : jMW K cr) : 1573 < K.2.2 := (hM.1 1573 (by decide)).2.2
theorem hn1573 {K : jK} {cr : jR} (hM : jMW K cr) : K.2.1 1573 = 3 := (hM.1 1573 (by decide)).2.1
theorem hk1574 {K : jK} {cr : jR} (hM : jMW K cr) : K.1 1574 = 102 := (hM.1 1574 (by decide)).1
theorem hl1574 {K : jK} {cr : jR} (hM : jMW K cr) : 1574 < K.2.2 := (hM.1 1574 (by decide)).2.2
theorem hn1574 {K : jK} {cr : jR} (hM : jMW K cr) : K.2.1 1574 = 3 := (hM.1 1574 (by decide)).2.1
theorem hk1575 {K : jK} {cr : jR} (hM : jMW K cr) : K.1 1575 = 102 := (hM.1 1575 (by decide)).1
theorem hl1575 {K : jK} {cr : jR} (hM : jMW K cr) : 1575 < K.2.2 := (hM.1 1575 (by decide)).2.2
theorem hn1575 {K : jK} {cr : jR} (hM : jMW K cr) : K.2.1 1575 = 3 := (hM.1 1575 (by decide)).2.1
theorem hk1576 {K : jK} {cr : jR} (hM : jMW K cr) : K.1 1576 = 102 := (hM.1 1576 (by decide)).1
theorem hl1576 {K : jK} {cr : jR} (hM : jMW K cr) : 1576 < K.2.2 := (hM.1 1576 (by decide)).2.2
theorem hn1576 {K : jK} {cr : jR} (hM : jMW K cr) : K.2.1 1576 = 3 := (hM.1 1576 (by decide)).2.1
theorem hk1577 {K : jK} {cr : jR} (hM : jMW K cr) : K.1 1577 = 100 := (hM.1 1577 (by decide)).1
theorem hl1577 {K : jK} {cr : jR} (hM : jMW K cr) : 1577 < K.2.2 := (hM.1 1577 (by decide)).2.2
theorem hn1577 {K : jK} {cr : jR} (hM : jMW K cr) : K.2.1 1577 = 8 := (hM.1 1577 (by decide)).2.1
theorem hk1578 {K : jK} {cr : jR} (hM : jMW K cr) : K.1 1578 = 103 := (hM.1 1578 (by decide)).1
theorem hl1578 {K : jK} {cr : jR} (hM : jMW K cr) : 1578 < K.2.2 := (hM.1 1578 (by decide)).2.2
theorem hn1578 {K : jK} {cr : jR} (hM : jMW K cr) : K.2.1 1578 = 60 := (hM.1 1578 (by decide)).2.1
theorem hk1579 {K : jK} {cr : jR} (hM : jMW K cr) : K.1 1579 = 100 := (hM.1 1579 (by decide)).1
theorem hl1579 {K : jK} {cr : jR} (hM : jMW K cr) : 1579 < K.2.2 := (hM.1 1579 (by decide)).2.2
theorem hn1579 {K : jK} {cr : jR} (hM : jMW K cr) : K.2.1 1579 = 24 := (hM.1 1579 (by decide)).2.1
theorem hk1580 {K : jK} {cr : jR} (hM : jMW K cr) : K.1 1580 = 100 := (hM.1 1580 (by decide)).1
theorem hl1580 {K : jK} {cr : jR} (hM : jMW K cr) : 1580 < K.2.2 := (hM.1 1580 (by decide)).2.2
theorem hn1580 {K : jK} {cr : jR} (hM : jMW K cr) : K.2.1 1580 = 40 := (hM.1 1580 (by decide)).2.1
theorem hk1581 {K : jK} {cr : jR} (hM : jMW K cr) : K.1 1581 = 100 := (hM.1 1581 (by decide)).1
theorem hl1581 {K : jK} {cr : jR} (hM : jMW K cr) : 1581 < K.2.2 := (hM.1 1581 (by decide)).2.2
theorem hn1581 {K : jK} {cr : jR} (hM : jMW K cr) : K.2.1 1581 = 12 := (hM.1 1581 (by decide)).2.1
theorem hk1582 {K : jK} {cr : jR} (hM : jMW K cr) : K.1 1582 = 100 := (hM.1 1582 (by decide)).1
theorem hl1582 {K : jK} {cr : jR} (hM : jMW K cr) : 1582 < K.2.2 := (hM.1 1582 (by decide)).2.2
theorem hn1582 {K : jK} {cr : jR} (hM : jMW K cr) : K.2.1 1582 = 8 := (hM.1 1582 (by decide)).2.1
theorem hk1583 {K : jK} {cr : jR} (hM : jMW K cr) : K.1 1583 = 100 := (hM.1 1583 (by decide)).1
theorem hl1583 {K : jK} {cr : jR} (hM : jMW K cr) : 1583 < K.2.2 := (hM.1 1583 (by decide)).2.2
theorem hn1583 {K : jK} {cr : jR} (hM : jMW K cr) : K.2.1 1583 = 8 := (hM.1 1583 (by decide)).2.1
theorem hk1584 {K : jK} {cr : jR} (hM : jMW K cr) : K.1 1584 = 100 := (hM.1 1584 (by decide)).1
theorem hl1584 {K : jK} {cr : jR} (hM : jMW K cr) : 1584 < K.2.2 := (hM.1 1584 (by decide)).2.2
theorem hn1584 {K : jK} {cr : jR} (hM : jMW K cr) : K.2.1 1584 = 3200 := (hM.1 1584 (by decide)).2.1
theorem hk1585 {K : jK} {cr : jR} (hM : jMW K cr) : K.1 1585 = 100 := (hM.1 1585 (by decide)).1
theorem hl1585 {K : jK} {cr : jR} (hM : jMW K cr) : 1585 < K.2.2 := (hM.1 1585 (by decide)).2.2
theorem hn1585 {K : jK} {cr : jR} (hM : jMW K cr) : K.2.1 1585 = 166 := (hM.1 1585 (by decide)).2.1
theorem hk1586 {K : jK} {cr : jR} (hM : jMW K cr) : K.1 1586 = 100 := (hM.1 1586 (by decide)).1
theorem hl1586 {K : jK} {cr : jR} (hM : jMW K cr) : 1586 < K.2.2 := (hM.1 1586 (by decide)).2.2
theorem hn1586 {K : jK} {cr : jR} (hM : jMW K cr) : K.2.1 1586 = 45 := (hM.1 1586 (by decide)).2.1
theorem hk1587 {K : jK} {cr : jR} (hM : jMW K cr) : K.1 1587 = 100 := (hM.1 1587 (by decide)).1
theorem hl1587 {K : jK} {cr : jR} (hM : jMW K cr) : 1587 < K.2.2 := (hM.1 1587 (by decide)).2.2
theorem hn1587 {K : jK} {cr : jR} (hM : jMW K cr) : K.2.1 1587 = 6 := (hM.1 1587 (by decide)).2.1
theorem hk1588 {K : jK} {cr : jR} (hM : jMW K cr) : K.1 1588 = 100 := (hM.1 1588 (by decide)).1
theorem hl1588 {K : jK} {cr : jR} (hM : jMW K cr) : 1588 < K.2.2 := (hM.1 1588 (by decide)).2.2
theorem hn1588 {K : jK} {cr : jR} (hM : jMW K cr) : K.2.1 1588 = 6 := (hM.1 1588 (by decide)).2.1
theorem hk1589 {K : jK} {cr : jR} (hM : jMW K cr) : K.1 1589 = 100 := (hM.1 1589 (by decide)).1
theorem hl1589 {K : jK} {cr : jR} (hM : jMW K cr) : 1589 < K.2.2 := (hM.1 1589 (by decide)).2.2
theorem hn1589 {K : jK} {cr : jR} (hM : jMW K cr) : K.2.1 1589 = 3 := (hM.1 1589 (by decide)).2.1
theorem hk1590 {K : jK} {cr : jR} (hM : jMW K cr) : K.1 1590 = 100 := (hM.1 1590 (by decide)).1
theorem hl1590 {K : jK} {cr : jR} (hM : jMW K cr) : 1590 < K.2.2 := (hM.1 1590 (by decide)).2.2
theorem hn1590 {K : jK} {cr : jR} (hM : jMW K cr) : K.2.1 1590 = 16 := (hM.1 1590 (by decide)).2.1
theorem hk1591 {K : jK} {cr : jR} (hM : jMW K cr) : K.1 1591 = 100 := (hM.1 1591 (by decide)).1
theorem hl1591 {K : jK} {cr : jR} (hM : jMW K cr) : 1591 < K.2.2 := (hM.1 1591 (by decide)).2.2
theorem hn1591 {K : jK} {cr : jR} (hM : jMW K cr) : K.2.1 1591 = 180 := (hM.1 1591 (by decide)).2.1
theorem hk1592 {K : jK} {cr : jR} (hM : jMW K cr) : K.1 1592 = 100 := (hM.1 1592 (by decide)).1
theorem hl1592 {K : jK} {cr : jR} (hM : jMW K cr) : 1592 < K.2.2 := (hM.1 1592 (by decide)).2.2
theorem hn1592 {K : jK} {cr : jR} (hM : jMW K cr) : K.2.1 1592 = 48 := (hM.1 1592 (by decide)).2.1
theorem hk1593 {K : jK} {cr : jR} (hM : jMW K cr) : K.1 1593 = 100 := (hM.1 1593 (by decide)).1
theorem hl1593 {K : jK} {cr : jR} (hM : jMW K cr) : 1593 < K.2.2 := (hM.1 1593 (by decide)).2.2
theorem hn1593 {K : jK} {cr : jR} (hM : jMW K cr) : K.2.1 1593 = 930 := (hM.1 1593 (by decide)).2.1
theorem hk1594 {K : jK} {cr : jR} (hM : jMW K cr) : K.1 1594 = 100 := (hM.1 1594 (by decide)).1
theorem hl1594 {K : jK} {cr : jR} (hM : jMW K cr) : 1594 < K.2.2 := (hM.1 1594 (by decide)).2.2
theorem hn1594 {K : jK} {cr : jR} (hM : jMW K cr) : K.2.1 1594 = 3320 := (hM.1 1594 (by decide)).2.1
theorem hk1595 {K : jK} {cr : jR} (hM : jMW K cr) : K.1 1595 = 102 := (hM.1 1595 (by decide)).1
theorem hl1595 {K : jK} {cr : jR} (hM : jMW K cr) : 1595 < K.2.2 := (hM.1 1595 (by decide)).2.2
theorem hn1595 {K : jK} {cr : jR} (hM : jMW K cr) : K.2.1 1595 = 5 := (hM.1 1595 (by decide)).2.1
theorem hk1596 {K : jK} {cr : jR} (hM : jMW K cr) : K.1 1596 = 102 := (hM.1 1596 (by decide)).1
theorem hl1596 {K : jK} {cr : jR} (hM : jMW K cr) : 1596 < K.2.2 := (hM.1 1596 (by decide)).2.2
theorem hn1596 {K : jK} {cr : jR} (hM : jMW K cr) : K.2.1 1596 = 4 := (hM.1 1596 (by decide)).2.1
theorem hk1597 {K : jK} {cr : jR} (hM : jMW K cr) : K.1 1597 = 102 := (hM.1 1597 (by decide)).1
theorem hl1597 {K : jK} {cr : jR} (hM : jMW K cr) : 1597 < K.2.2 := (hM.1 1597 (by decide)).2.2
theorem hn1597 {K : jK} {cr : jR} (hM : jMW K cr) : K.2.1 1597 = 5 := (hM.1 1597 (by decide)).2.1
theorem hk1598 {K : jK} {cr : jR} (hM : jMW K cr) : K.1 1598 = 102 := (hM.1 1598 (by decide)).1
theorem hl1598 {K : jK} {cr : jR} (hM : jMW K cr) : 1598 < K.2.2 := (hM.1 1598 (by decide)).2.2
theorem hn1598 {K : jK} {cr : jR} (hM : jMW K cr) : K.2.1 1598 = 5 := (hM.1 1598 (by decide)).2.1
theorem hk1599 {K : jK} {cr : jR} (hM : jMW K cr) : K.1 1599 = 102 := (hM.1 1599 (by decide)).1
theorem hl1599 {K : jK} {cr : jR} (hM : jMW K cr) : 1599 < K.2.2 := (hM.1 1599 (by decide)).2.2
theorem hn1599 {K : jK} {cr : jR} (hM : jMW K cr) : K.2.1 1599 = 4 := (hM.1 1599 (by decide)).2.1
theorem hk1600 {K : jK} {cr : jR} (hM : jMW K cr) : K.1 1600 = 102 := (hM.1 1600 (by decide)).1
theorem hl1600 {K : jK} {cr : jR} (hM : jMW K cr) : 1600 < K.2.2 := (hM.1 1600 (by decide)).2.2
theorem hn1600 {K : jK} {cr : jR} (hM : jMW K cr) : K.2.1 1600 = 5 := (hM.1 1600 (by decide)).2.1
theorem hk1601 {K : jK} {cr : jR} (hM : jMW K cr) : K.1 1601 = 102 := (hM.1 1601 (by decide)).1
theorem hl1601 {K : jK} {cr : jR} (hM : jMW K cr) : 1601 < K.2.2 := (hM.1 1601 (by decide)).2.2
theorem hn1601 {K : jK} {cr : jR} (hM : jMW K cr) : K.2.1 1601 = 3 := (hM.1 1601 (by decide)).2.1
theorem hk1602 {K : jK} {cr : jR} (hM : jMW K cr) : K.1 1602 = 102 := (hM.1 1602 (by decide)).1
theorem hl1602 {K : jK} {cr : jR} (hM : jMW K cr) : 1602 < K.2.2 := (hM.1 1602 (by decide)).2.2
theorem hn1602 {K : jK} {cr : jR} (hM : jMW K cr) : K.2.1 1602 = 3 := (hM.1 1602 (by decide)).2.1
theorem hk1603 {K : jK} {cr : jR} (hM : jMW K cr) : K.1 1603 = 102 := (hM.1 1603 (by decide)).1
theorem hl1603 {K : jK} {cr : jR} (hM : jMW K cr) : 1603 < K.2.2 := (hM.1 1603 (by decide)).2.2
theorem hn1603 {K : jK} {cr : jR} (hM : jMW K cr) : K.2.1 1603 = 2 := (hM.1 1603 (by decide)).2.1
theorem hk1604 {K : jK} {cr : jR} (hM : jMW K cr) : K.1 1604 = 102 := (hM.1 1604 (by decide)).1
theorem hl1604 {K : jK} {cr : jR} (hM : jMW K cr) : 1604 < K.2.2 := (hM.1 1604 (by decide)).2.2
theorem hn1604 {K : jK} {cr : jR} (hM : jMW K cr) : K.2.1 1604 = 3 := (hM.1 1604 (by decide)).2.1
theorem hk1605 {K : jK} {cr : jR} (hM : jMW K cr) : K.1 1605 = 102 := (hM.1 1605 (by decide)).1
theorem hl1605 {K : jK} {cr : jR} (hM : jMW K cr) : 1605 < K.2.2 := (hM.1 1605 (by decide)).2.2
theorem hn1605 {K : jK} {cr : jR} (hM : jMW K cr) : K.2.1 1605 = 3 := (hM.1 1605 (by decide)).2.1
theorem hk1606 {K : jK} {cr : jR} (hM : jMW K cr) : K.1 1606 = 102 := (hM.1 1606 (by decide)).1
theorem hl1606 {K : jK} {cr : jR} (hM : jMW K cr) : 1606 < K.2.2 := (hM.1 1606 (by decide)).2.2
theorem hn1606 {K : jK} {cr : jR} (hM : jMW K cr) : K.2.1 1606 = 3 := (hM.1 1606 (by decide)).2.1
theorem hk1607 {K : jK} {cr : jR} (hM : jMW K cr) : K.1 1607 = 102 := (hM.1 1607 (by decide)).1
theorem hl1607 {K : jK} {cr : jR} (hM : jMW K cr) : 1607 < K.2.2 := (hM.1 1607 (by decide)).2.2
theorem hn1607 {K : jK} {cr : jR} (hM : jMW K cr) : K.2.1 1607 = 6 := (hM.1 1607 (by decide)).2.1
theorem hk1608 {K : jK} {cr : jR} (hM : jMW K cr) : K.1 1608 = 102 := (hM.1 1608 (by decide)).1
theorem hl1608 {K : jK} {cr : jR} (hM : jMW K cr) : 1608 < K.2.2 := (hM.1 1608 (by decide)).2.2
theorem hn1608 {K : jK} {cr : jR} (hM : jMW K cr) : K.2.1 1608 = 4 := (hM.1 1608 (by decide)).2.1
theorem hk1609 {K : jK} {cr : jR} (hM : jMW K cr) : K.1 1609 = 102 := (hM.1 1609 (by decide)).1
theorem hl1609 {K : jK} {cr : jR} (hM : jMW K cr) : 1609 < K.2.2 := (hM.1 1609 (by decide)).2.2
theorem hn1609 {K : jK} {cr : jR} (hM : jMW K cr) : K.2.1 1609 = 4 := (hM.1 1609 (by decide)).2.1
theorem hk1610 {K : jK} {cr : jR} (hM : jMW K cr) : K.1 1610 = 102 := (hM.1 1610 (by decide)).1
theorem hl1610 {K : jK} {cr : jR} (hM : jMW K cr) : 1610 < K.2.2 := (hM.1 1610 (by decide)).2.2
theorem hn1610 {K : jK} {cr : jR} (hM : jMW K cr) : K.2.1 1610 = 4 := (hM.1 1610 (by decide)).2.1
theorem hk1611 {K : jK} {cr : jR} (hM : jMW K cr) : K.1 1611 = 102 := (hM.1 1611 (by decide)).1
theorem hl1611 {K : jK} {cr : jR} (hM : jMW K cr) : 1611 < K.2.2 := (hM.1 1611 (by decide)).2.2
theorem hn1611 {K : jK} {cr : jR} (hM : jMW K cr) : K.2.1 1611 = 3 := (hM.1 1611 (by decide)).2.1
theorem hk1612 {K : jK} {cr : jR} (hM : jMW K cr) : K.1 1612 = 102 := (hM.1 1612 (by decide)).1
theorem hl1612 {K : jK} {cr : jR} (hM : jMW K cr) : 1612 < K.2.2 := (hM.1 1612 (by decide)).2.2
theorem hn1612 {K : jK} {cr : jR} (hM : jMW K cr) : K.2.1 1612 = 4 := (hM.1 1612 (by decide)).2.1
theorem hk1613 {K : jK} {cr : jR} (hM : jMW K cr) : K.1 1613 = 102 := (hM.1 1613 (by decide)).1
theorem hl1613 {K : jK} {cr : jR} (hM : jMW K cr) : 1613 < K.2.2 := (hM.1 1613 (by decide)).2.2
theorem hn1613 {K : jK} {cr : jR} (hM : jMW K cr) : K.2.1 1613 = 6 := (hM.1 1613 (by decide)).2.1
theorem hk1614 {K : jK} {cr : jR} (hM : jMW K cr) : K.1 1614 = 102 := (hM.1 1614 (by decide)).1
theorem hl1614 {K : jK} {cr : jR} (hM : jMW K cr) : 1614 < K.2.2 := (hM.1 1614 (by decide)).2.2
theorem hn1614 {K : jK} {cr : jR} (hM : jMW K cr) : K.2.1 1614 = 4 := (hM.1 1614 (by decide)).2.1
theorem hk1615 {K : jK} {cr : jR} (hM : jMW K cr) : K.1 1615 = 102 := (hM.1 1615 (by decide)).1
theorem hl1615 {K : jK} {cr : jR} (hM : jMW K cr) : 1615 < K.2.2 := (hM.1 1615 (by decide)).2.2
theorem hn1615 {K : jK} {cr : jR} (hM : jMW K cr) : K.2.1 1615 = 5 := (hM.1 1615 (by decide)).2.1
theorem hk1616 {K : jK} {cr : jR} (hM : jMW K cr) : K.1 1616 = 102 := (hM.1 1616 (by decide)).1
theorem hl1616 {K : jK} {cr : jR} (hM : jMW K cr) : 1616 < K.2.2 := (hM.1 1616 (by decide)).2.2
theorem hn1616 {K : jK} {cr : jR} (hM : jMW K cr) : K.2.1 1616 = 6 := (hM.1 1616 (by decide)).2.1
theorem hk1617 {K : jK} {cr : jR} (hM : jMW K cr) : K.1 1617 = 102 := (hM.1 1617 (by decide)).1
theorem hl1617 {K : jK} {cr : jR} (hM : jMW K cr) : 1617 < K.2.2 := (hM.1 1617 (by decide)).2.2
theorem hn1617 {K : jK} {cr : jR} (hM : jMW K cr) : K.2.1 1617 = 5 := (hM.1 1617 (by decide)).2.1
theorem hk1618 {K : jK} {cr : jR} (hM : jMW K cr) : K.1 1618 = 102 := (hM.1 1618 (by decide)).1
theorem hl1618 {K : jK} {cr : jR} (hM : jMW K cr) : 1618 < K.2.2 := (hM.1 1618 (by decide)).2.2
theorem hn1618 {K : jK} {cr : jR} (hM : jMW K cr) : K.2.1 1618 = 4 := (hM.1 1618 (by decide)).2.1
theorem hk1619 {K : jK} {cr : jR} (hM : jMW K cr) : K.1 1619 = 102 := (hM.1 1619 (by decide)).1
theorem hl1619 {K : jK} {cr : jR} (hM : jMW K cr) : 1619 < K.2.2 := (hM.1 1619 (by decide)).2.2
theorem hn1619 {K : jK} {cr : jR} (hM : jMW K cr) : K.2.1 1619 = 6 := (hM.1 1619 (by decide)).2.1
theorem hk1620 {K : jK} {cr : jR} (hM : jMW K cr) : K.1 1620 = 100 := (hM.1 1620 (by decide)).1
theorem hl1620 {K : jK} {cr : jR} (hM : jMW K cr) : 1620 < K.2.2 := (hM.1 1620 (by decide)).2.2
theorem hn1620 {K : jK} {cr : jR} (hM : jMW K cr) : K.2.1 1620 = 1700 := (hM.1 1620 (by decide)).2.1
theorem hk1621 {K : jK} {cr : jR} (hM : jMW K cr) : K.1 1621 = 100 := (hM.1 1621 (by decide)).1
theorem hl1621 {K : jK} {cr : jR} (hM : jMW K cr) : 1621 < K.2.2 := (hM.1 1621 (by decide)).2.2
theorem hn1621 {K : jK} {cr : jR} (hM : jMW K cr) : K.2.1 1621 = 1700 := (hM.1 1621 (by decide)).2.1
theorem hk1622 {K : jK} {cr : jR} (hM : jMW K cr) : K.1 1622 = 103 := (hM.1 1622 (by decide)).1
theorem hl1622 {K : jK} {cr : jR} (hM : jMW K cr) : 1622 < K.2.2 := (hM.1 1622 (by decide)).2.2
theorem hn1622 {K : jK} {cr : jR} (hM : jMW K cr) : K.2.1 1622 = 1700 := (hM.1 1622 (by decide)).2.1
theorem hk1623 {K : jK} {cr : jR} (hM : jMW K cr) : K.1 1623 = 100 := (hM.1 1623 (by decide)).1
theorem hl1623 {K : jK} {cr : jR} (hM : jMW K cr) : 1623 < K.2.2 := (hM.1 1623 (by decide)).2.2
theorem hn1623 {K : jK} {cr : jR} (hM : jMW K cr) : K.2.1 1623 = 53 := (hM.1 1623 (by decide)).2.1
/-- tape -/
theorem hr0 {K : jK} {cr : jR} (hM : jMW K cr) : cr 1547 0 = some 1548 := hM.2 0 (by decide) (by decide)
/-- refused -/
theorem hr9 {K : jK} {cr : jR} (hM : jMW K cr) : cr 1547 9 = some 1549 := hM.2 9 (by decide) (by decide)
/-- bayWord -/
theorem hr11 {K : jK} {cr : jR} (hM : jMW K cr) : cr 1547 11 = some 1550 := hM.2 11 (by decide) (by decide)
/-- mileWord -/
theorem hr12 {K : jK} {cr : jR} (hM : jMW K cr) : cr 1547 12 = some 1551 := hM.2 12 (by decide) (by decide)
/-- hungerWord -/
theorem hr13 {K : jK} {cr : jR} (hM : jMW K cr) : cr 1547 13 = some 1552 := hM.2 13 (by decide) (by decide)
/-- pairWord -/
theorem hr14 {K : jK} {cr : jR} (hM : jMW K cr) : cr 1547 14 = some 1553 := hM.2 14 (by decide) (by decide)
/-- inWord -/
theorem hr15 {K : jK} {cr : jR} (hM : jMW K cr) : cr 1547 15 = some 1554 := hM.2 15 (by decide) (by decide)
/-- trueWord -/
theorem hr16 {K : jK} {cr : jR} (hM : jMW K cr) : cr 1547 16 = some 1555 := hM.2 16 (by decide) (by decide)
/-- shoalWord -/
theorem hr17 {K : jK} {cr : jR} (hM : jMW K cr) : cr 1547 17 = some 1556 := hM.2 17 (by decide) (by decide)
/-- sizeWord -/
theorem hr18 {K : jK} {cr : jR} (hM : jMW K cr) : cr 1547 18 = some 1557 := hM.2 18 (by decide) (by decide)
/-- luresWord -/
theorem hr19 {K : jK} {cr : jR} (hM : jMW K cr) : cr 1547 19 = some 1558 := hM.2 19 (by decide) (by decide)
/-- mendsWord -/
theorem hr20 {K : jK} {cr : jR} (hM : jMW K cr) : cr 1547 20 = some 1559 := hM.2 20 (by decide) (by decide)
/-- starvesWord -/
theorem hr21 {K : jK} {cr : jR} (hM : jMW K cr) : cr 1547 21 = some 1560 := hM.2 21 (by decide) (by decide)
/-- countsWord -/
theorem hr22 {K : jK} {cr : jR} (hM : jMW K cr) : cr 1547 22 = some 1561 := hM.2 22 (by decide) (by decide)
/-- stormWord -/
theorem hr23 {K : jK} {cr : jR} (hM : jMW K cr) : cr 1547 23 = some 1562 := hM.2 23 (by decide) (by decide)
/-- vowsWord -/
theorem hr24 {K : jK} {cr : jR} (hM : jMW K cr) : cr 1547 24 = some 1563 := hM.2 24 (by decide) (by decide)
/-- farWord -/
theorem hr25 {K : jK} {cr : jR} (hM : jMW K cr) : cr 1547 25 = some 1564 := hM.2 25 (by decide) (by decide)
/-- yearWord -/
theorem hr26 {K : jK} {cr : jR} (hM : jMW K cr) : cr 1547 26 = some 1565 := hM.2 26 (by decide) (by decide)
/-- lateWord -/
theorem hr27 {K : jK} {cr : jR} (hM : jMW K cr) : cr 1547 27 = some 1566 := hM.2 27 (by decide) (by decide)
/-- caughtWord -/
theorem hr28 {K : jK} {cr : jR} (hM : jMW K cr) : cr 1547 28 = some 1567 := hM.2 28 (by decide) (by decide)
/-- sinceWord -/
theorem hr29 {K : jK} {cr : jR} (hM : jMW K cr) : cr 1547 29 = some 1568 := hM.2 29 (by decide) (by decide)
/-- numberWord -/
theorem hr30 {K : jK} {cr : jR} (hM : jMW K cr) : cr 1547 30 = some 1569 := hM.2 30 (by decide) (by decide)
/-- placeWord -/
theorem hr31 {K : jK} {cr : jR} (hM : jMW K cr) : cr 1547 31 = some 1570 := hM.2 31 (by decide) (by decide)
/-- orWord -/
theorem hr32 {K : jK} {cr : jR} (hM : jMW K cr) : cr 1547 32 = some 1571 := hM.2 32 (by decide) (by decide)
/-- andWord -/
theorem hr33 {K : jK} {cr : jR} (hM : jMW K cr) : cr 1547 33 = some 1572 := hM.2 33 (by decide) (by decide)
/-- notWord -/
theorem hr34 {K : jK} {cr : jR} (hM : jMW K cr) : cr 1547 34 = some 1573 := hM.2 34 (by decide) (by decide)
/-- allWord -/
theorem hr35 {K : jK} {cr : jR} (hM : jMW K cr) : cr 1547 35 = some 1574 := hM.2 35 (by decide) (by decide)
/-- minWord -/
theorem hr36 {K : jK} {cr : jR} (hM : jMW K cr) : cr 1547 36 = some 1575 := hM.2 36 (by decide) (by decide)
/-- maxWord -/
theorem hr37 {K : jK} {cr : jR} (hM : jMW K cr) : cr 1547 37 = some 1576 := hM.2 37 (by decide) (by decide)
/-- many -/
theorem hr39 {K : jK} {cr : jR} (hM : jMW K cr) : cr 1547 39 = some 1577 := hM.2 39 (by decide) (by decide)
/-- names -/
theorem hr40 {K : jK} {cr : jR} (hM : jMW K cr) : cr 1547 40 = some 1578 := hM.2 40 (by decide) (by decide)
/-- bays -/
theorem hr41 {K : jK} {cr : jR} (hM : jMW K cr) : cr 1547 41 = some 1579 := hM.2 41 (by decide) (by decide)
/-- pairs -/
theorem hr42 {K : jK} {cr : jR} (hM : jMW K cr) : cr 1547 42 = some 1580 := hM.2 42 (by decide) (by decide)
/-- shoals -/
theorem hr43 {K : jK} {cr : jR} (hM : jMW K cr) : cr 1547 43 = some 1581 := hM.2 43 (by decide) (by decide)
/-- codeFrom -/
theorem hr44 {K : jK} {cr : jR} (hM : jMW K cr) : cr 1547 44 = some 1582 := hM.2 44 (by decide) (by decide)
/-- codeEnd -/
theorem hr45 {K : jK} {cr : jR} (hM : jMW K cr) : cr 1547 45 = some 1583 := hM.2 45 (by decide) (by decide)
/-- codes -/
theorem hr46 {K : jK} {cr : jR} (hM : jMW K cr) : cr 1547 46 = some 1584 := hM.2 46 (by decide) (by decide)
/-- now -/
theorem hr50 {K : jK} {cr : jR} (hM : jMW K cr) : cr 1547 50 = some 1585 := hM.2 50 (by decide) (by decide)
/-- aside -/
theorem hr51 {K : jK} {cr : jR} (hM : jMW K cr) : cr 1547 51 = some 1586 := hM.2 51 (by decide) (by decide)
/-- vowsNow -/
theorem hr56 {K : jK} {cr : jR} (hM : jMW K cr) : cr 1547 56 = some 1587 := hM.2 56 (by decide) (by decide)
/-- caughtNow -/
theorem hr57 {K : jK} {cr : jR} (hM : jMW K cr) : cr 1547 57 = some 1588 := hM.2 57 (by decide) (by decide)
/-- comes -/
theorem hr61 {K : jK} {cr : jR} (hM : jMW K cr) : cr 1547 61 = some 1589 := hM.2 61 (by decide) (by decide)
/-- ahead -/
theorem hr62 {K : jK} {cr : jR} (hM : jMW K cr) : cr 1547 62 = some 1590 := hM.2 62 (by decide) (by decide)
/-- cameTo -/
theorem hr63 {K : jK} {cr : jR} (hM : jMW K cr) : cr 1547 63 = some 1591 := hM.2 63 (by decide) (by decide)
/-- rows -/
theorem hr65 {K : jK} {cr : jR} (hM : jMW K cr) : cr 1547 65 = some 1592 := hM.2 65 (by decide) (by decide)
/-- ways -/
theorem hr66 {K : jK} {cr : jR} (hM : jMW K cr) : cr 1547 66 = some 1593 := hM.2 66 (by decide) (by decide)
/-- kept0 -/
theorem hr67 {K : jK} {cr : jR} (hM : jMW K cr) : cr 1547 67 = some 1594 := hM.2 67 (by decide) (by decide)
/-- firstAsked -/
theorem hr71 {K : jK} {cr : jR} (hM : jMW K cr) : cr 1547 71 = some 1595 := hM.2 71 (by decide) (by decide)
/-- lastAsked -/
theorem hr72 {K : jK} {cr : jR} (hM : jMW K cr) : cr 1547 72 = some 1596 := hM.2 72 (by decide) (by decide)
/-- oftenAsked -/
theorem hr73 {K : jK} {cr : jR} (hM : jMW K cr) : cr 1547 73 = some 1597 := hM.2 73 (by decide) (by decide)
/-- totalAsked -/
theorem hr74 {K : jK} {cr : jR} (hM : jMW K cr) : cr 1547 74 = some 1598 := hM.2 74 (by decide) (by decide)
/-- mostAsked -/
theorem hr75 {K : jK} {cr : jR} (hM : jMW K cr) : cr 1547 75 = some 1599 := hM.2 75 (by decide) (by decide)
/-- leastAsked -/
theorem hr76 {K : jK} {cr : jR} (hM : jMW K cr) : cr 1547 76 = some 1600 := hM.2 76 (by decide) (by decide)
/-- notAsked -/
theorem hr77 {K : jK} {cr : jR} (hM : jMW K cr) : cr 1547 77 = some 1601 := hM.2 77 (by decide) (by decide)
/-- andAsked -/
theorem hr78 {K : jK} {cr : jR} (hM : jMW K cr) : cr 1547 78 = some 1602 := hM.2 78 (by decide) (by decide)
/-- orAsked -/
theorem hr79 {K : jK} {cr : jR} (hM : jMW K cr) : cr 1547 79 = some 1603 := hM.2 79 (by decide) (by decide)
/-- allAsked -/
theorem hr80 {K : jK} {cr : jR} (hM : jMW K cr) : cr 1547 80 = some 1604 := hM.2 80 (by decide) (by decide)
/-- minAsked -/
theorem hr81 {K : jK} {cr : jR} (hM : jMW K cr) : cr 1547 81 = some 1605 := hM.2 81 (by decide) (by decide)
/-- maxAsked -/
theorem hr82 {K : jK} {cr : jR} (hM : jMW K cr) : cr 1547 82 = some 1606 := hM.2 82 (by decide) (by decide)
/-- hungerAsked -/
theorem hr83 {K : jK} {cr : jR} (hM : jMW K cr) : cr 1547 83 = some 1607 := hM.2 83 (by decide) (by decide)
/-- yearAsked -/
theorem hr84 {K : jK} {cr : jR} (hM : jMW K cr) : cr 1547 84 = some 1608 := hM.2 84 (by decide) (by decide)
/-- vowsAsked -/
theorem hr85 {K : jK} {cr : jR} (hM : jMW K cr) : cr 1547 85 = some 1609 := hM.2 85 (by decide) (by decide)
/-- lateAsked -/
theorem hr86 {K : jK} {cr : jR} (hM : jMW K cr) : cr 1547 86 = some 1610 := hM.2 86 (by decide) (by decide)
/-- farAsked -/
theorem hr87 {K : jK} {cr : jR} (hM : jMW K cr) : cr 1547 87 = some 1611 := hM.2 87 (by decide) (by decide)
/-- sizeAsked -/
theorem hr88 {K : jK} {cr : jR} (hM : jMW K cr) : cr 1547 88 = some 1612 := hM.2 88 (by decide) (by decide)
/-- caughtAsked -/
theorem hr89 {K : jK} {cr : jR} (hM : jMW K cr) : cr 1547 89 = some 1613 := hM.2 89 (by decide) (by decide)
/-- trueAsked -/
theorem hr90 {K : jK} {cr : jR} (hM : jMW K cr) : cr 1547 90 = some 1614 := hM.2 90 (by decide) (by decide)
/-- sinceAsked -/
theorem hr91 {K : jK} {cr : jR} (hM : jMW K cr) : cr 1547 91 = some 1615 := hM.2 91 (by decide) (by decide)
/-- numberAsked -/
theorem hr92 {K : jK} {cr : jR} (hM : jMW K cr) : cr 1547 92 = some 1616 := hM.2 92 (by decide) (by decide)
/-- placeAsked -/
theorem hr93 {K : jK} {cr : jR} (hM : jMW K cr) : cr 1547 93 = some 1617 := hM.2 93 (by decide) (by decide)
/-- vowsofAsked -/
theorem hr94 {K : jK} {cr : jR} (hM : jMW K cr) : cr 1547 94 = some 1618 := hM.2 94 (by decide) (by decide)
/-- caughtofAsked -/
theorem hr95 {K : jK} {cr : jR} (hM : jMW K cr) : cr 1547 95 = some 1619 := hM.2 95 (by decide) (by decide)
/-- qCodes -/
theorem hr96 {K : jK} {cr : jR} (hM : jMW K cr) : cr 1547 96 = some 1620 := hM.2 96 (by decide) (by decide)
/-- qWait -/
theorem hr98 {K : jK} {cr : jR} (hM : jMW K cr) : cr 1547 98 = some 1621 := hM.2 98 (by decide) (by decide)
/-- qPile -/
theorem hr102 {K : jK} {cr : jR} (hM : jMW K cr) : cr 1547 102 = some 1622 := hM.2 102 (by decide) (by decide)
/-- octet -/
theorem hr106 {K : jK} {cr : jR} (hM : jMW K cr) : cr 1547 106 = some 1623 := hM.2 106 (by decide) (by decide)
theorem jb10 : (Int8.ofInt (10)).toInt32 = (nI 10) := by decide
theorem jb100 : (Int8.ofInt (100)).toInt32 = (nI 100) := by decide
theorem jb11 : (Int8.ofInt (11)).toInt32 = (nI 11) := by decide
theorem jb12 : (Int8.ofInt (12)).toInt32 = (nI 12) := by decide
theorem jb122 : (Int8.ofInt (122)).toInt32 = (nI 122) := by decide
theorem jb13 : (Int8.ofInt (13)).toInt32 = (nI 13) := by decide
theorem jb16 : (Int8.ofInt (16)).toInt32 = (nI 16) := by decide
theorem jb20 : (Int8.ofInt (20)).toInt32 = (nI 20) := by decide
theorem jb21 : (Int8.ofInt (21)).toInt32 = (nI 21) := by decide
theorem jb22 : (Int8.ofInt (22)).toInt32 = (nI 22) := by decide
theorem jb23 : (Int8.ofInt (23)).toInt32 = (nI 23) := by decide
theorem jb24 : (Int8.ofInt (24)).toInt32 = (nI 24) := by decide
theorem jb25 : (Int8.ofInt (25)).toInt32 = (nI 25) := by decide
theorem jb26 : (Int8.ofInt (26)).toInt32 = (nI 26) := by decide
theorem jb30 : (Int8.ofInt (30)).toInt32 = (nI 30) := by decide
theorem jb32 : (Int8.ofInt (32)).toInt32 = (nI 32) := by decide
theorem jb40 : (Int8.ofInt (40)).toInt32 = (nI 40) := by decide
theorem jb41 : (Int8.ofInt (41)).toInt32 = (nI 41) := by decide
theorem jb42 : (Int8.ofInt (42)).toInt32 = (nI 42) := by decide
theorem jb43 : (Int8.ofInt (43)).toInt32 = (nI 43) := by decide
theorem jb44 : (Int8.ofInt (44)).toInt32 = (nI 44) := by decide
theorem jb45 : (Int8.ofInt (45)).toInt32 = (nI 45) := by decide
theorem jb46 : (Int8.ofInt (46)).toInt32 = (nI 46) := by decide
theorem jb47 : (Int8.ofInt (47)).toInt32 = (nI 47) := by decide
theorem jb48 : (Int8.ofInt (48)).toInt32 = (nI 48) := by decide
theorem jb57 : (Int8.ofInt (57)).toInt32 = (nI 57) := by decide
theorem jb59 : (Int8.ofInt (59)).toInt32 = (nI 59) := by decide
theorem jb6 : (Int8.ofInt (6)).toInt32 = (nI 6) := by decide
theorem jb60 : (Int8.ofInt (60)).toInt32 = (nI 60) := by decide
theorem jb61 : (Int8.ofInt (61)).toInt32 = (nI 61) := by decide
theorem jb62 : (Int8.ofInt (62)).toInt32 = (nI 62) := by decide
theorem jb7 : (Int8.ofInt (7)).toInt32 = (nI 7) := by decide
theorem jb8 : (Int8.ofInt (8)).toInt32 = (nI 8) := by decide
theorem jb9 : (Int8.ofInt (9)).toInt32 = (nI 9) := by decide
theorem jb91 : (Int8.ofInt (91)).toInt32 = (nI 91) := by decide
theorem jb93 : (Int8.ofInt (93)).toInt32 = (nI 93) := by decide
theorem jb97 : (Int8.ofInt (97)).toInt32 = (nI 97) := by decide
theorem jb99 : (Int8.ofInt (99)).toInt32 = (nI 99) := by decide
theorem jcm1 : Int32.ofInt (-1) = (-1) := by decide
theorem jc0 : Int32.ofInt (0) = (nI 0) := by decide
theorem jc1 : Int32.ofInt (1) = (nI 1) := by decide
theorem jc2 : Int32.ofInt (2) = (nI 2) := by decide
theorem jc3 : Int32.ofInt (3) = (nI 3) := by decide
theorem jc4 : Int32.ofInt (4) = (nI 4) := by decide
theorem jc5 : Int32.ofInt (5) = (nI 5) := by decide
theorem ji_m1 : Int32.ofInt (-1) = (-1) := by decide
theorem ji_1 : Int32.ofInt (1) = (nI 1) := by decide
theorem ji_2 : Int32.ofInt (2) = (nI 2) := by decide
theorem ji_3 : Int32.ofInt (3) = (nI 3) := by decide
theorem ji_4 : Int32.ofInt (4) = (nI 4) := by decide
theorem js1000 : (Int16.ofInt (1000)).toInt32 = (nI 1000) := by decide
theorem js10000 : (Int16.ofInt (10000)).toInt32 = (nI 10000) := by decide
theorem js1600 : (Int16.ofInt (1600)).toInt32 = (nI 1600) := by decide
theorem js163 : (Int16.ofInt (163)).toInt32 = (nI 163) := by decide
theorem js166 : (Int16.ofInt (166)).toInt32 = (nI 166) := by decide
theorem js233 : (Int16.ofInt (233)).toInt32 = (nI 233) := by decide
theorem js251 : (Int16.ofInt (251)).toInt32 = (nI 251) := by decide
theorem js255 : (Int16.ofInt (255)).toInt32 = (nI 255) := by decide
theorem js256 : (Int16.ofInt (256)).toInt32 = (nI 256) := by decide
theorem js297 : (Int16.ofInt (297)).toInt32 = (nI 297) := by decide
theorem js999 : (Int16.ofInt (999)).toInt32 = (nI 999) := by decide
theorem js9999 : (Int16.ofInt (9999)).toInt32 = (nI 9999) := by decide
theorem jtab_0_11 {x : Int32} (h0 : ¬ x = (nI 0)) (h1 : ¬ x = (nI 1)) (h2 : ¬ x = (nI 2)) (h3 : ¬ x = (nI 3)) (h4 : ¬ x = (nI 4)) (h5 : ¬ x = (nI 5)) (h6 : ¬ x = (nI 6)) (h7 : ¬ x = (nI 7)) (h8 : ¬ x = (nI 8)) (h9 : ¬ x = (nI 9)) (h10 : ¬ x = (nI 10)) (h11 : ¬ x = (nI 11)) : x.toInt < 0 ∨ 11 < x.toInt := by
  have e0 : ¬ x.toInt = 0 := fun z => h0 (Int32.toInt_inj.mp (z.trans (by decide)))
  have e1 : ¬ x.toInt = 1 := fun z => h1 (Int32.toInt_inj.mp (z.trans (by decide)))
  have e2 : ¬ x.toInt = 2 := fun z => h2 (Int32.toInt_inj.mp (z.trans (by decide)))
  have e3 : ¬ x.toInt = 3 := fun z => h3 (Int32.toInt_inj.mp (z.trans (by decide)))
  have e4 : ¬ x.toInt = 4 := fun z => h4 (Int32.toInt_inj.mp (z.trans (by decide)))
  have e5 : ¬ x.toInt = 5 := fun z => h5 (Int32.toInt_inj.mp (z.trans (by decide)))
  have e6 : ¬ x.toInt = 6 := fun z => h6 (Int32.toInt_inj.mp (z.trans (by decide)))
  have e7 : ¬ x.toInt = 7 := fun z => h7 (Int32.toInt_inj.mp (z.trans (by decide)))
  have e8 : ¬ x.toInt = 8 := fun z => h8 (Int32.toInt_inj.mp (z.trans (by decide)))
  have e9 : ¬ x.toInt = 9 := fun z => h9 (Int32.toInt_inj.mp (z.trans (by decide)))
  have e10 : ¬ x.toInt = 10 := fun z => h10 (Int32.toInt_inj.mp (z.trans (by decide)))
  have e11 : ¬ x.toInt = 11 := fun z => h11 (Int32.toInt_inj.mp (z.trans (by decide)))
  omega
theorem jtab_0_3 {x : Int32} (h0 : ¬ x = (nI 0)) (h1 : ¬ x = (nI 1)) (h2 : ¬ x = (nI 2)) (h3 : ¬ x = (nI 3)) : x.toInt < 0 ∨ 3 < x.toInt := by
  have e0 : ¬ x.toInt = 0 := fun z => h0 (Int32.toInt_inj.mp (z.trans (by decide)))
  have e1 : ¬ x.toInt = 1 := fun z => h1 (Int32.toInt_inj.mp (z.trans (by decide)))
  have e2 : ¬ x.toInt = 2 := fun z => h2 (Int32.toInt_inj.mp (z.trans (by decide)))
  have e3 : ¬ x.toInt = 3 := fun z => h3 (Int32.toInt_inj.mp (z.trans (by decide)))
  omega
theorem jtab_0_4 {x : Int32} (h0 : ¬ x = (nI 0)) (h1 : ¬ x = (nI 1)) (h2 : ¬ x = (nI 2)) (h3 : ¬ x = (nI 3)) (h4 : ¬ x = (nI 4)) : x.toInt < 0 ∨ 4 < x.toInt := by
  have e0 : ¬ x.toInt = 0 := fun z => h0 (Int32.toInt_inj.mp (z.trans (by decide)))
  have e1 : ¬ x.toInt = 1 := fun z => h1 (Int32.toInt_inj.mp (z.trans (by decide)))
  have e2 : ¬ x.toInt = 2 := fun z => h2 (Int32.toInt_inj.mp (z.trans (by decide)))
  have e3 : ¬ x.toInt = 3 := fun z => h3 (Int32.toInt_inj.mp (z.trans (by decide)))
  have e4 : ¬ x.toInt = 4 := fun z => h4 (Int32.toInt_inj.mp (z.trans (by decide)))
  omega
theorem jtab_0_9 {x : Int32} (h0 : ¬ x = (nI 0)) (h1 : ¬ x = (nI 1)) (h2 : ¬ x = (nI 2)) (h3 : ¬ x = (nI 3)) (h4 : ¬ x = (nI 4)) (h5 : ¬ x = (nI 5)) (h6 : ¬ x = (nI 6)) (h7 : ¬ x = (nI 7)) (h8 : ¬ x = (nI 8)) (h9 : ¬ x = (nI 9)) : x.toInt < 0 ∨ 9 < x.toInt := by
  have e0 : ¬ x.toInt = 0 := fun z => h0 (Int32.toInt_inj.mp (z.trans (by decide)))
  have e1 : ¬ x.toInt = 1 := fun z => h1 (Int32.toInt_inj.mp (z.trans (by decide)))
  have e2 : ¬ x.toInt = 2 := fun z => h2 (Int32.toInt_inj.mp (z.trans (by decide)))
  have e3 : ¬ x.toInt = 3 := fun z => h3 (Int32.toInt_inj.mp (z.trans (by decide)))
  have e4 : ¬ x.toInt = 4 := fun z => h4 (Int32.toInt_inj.mp (z.trans (by decide)))
  have e5 : ¬ x.toInt = 5 := fun z => h5 (Int32.toInt_inj.mp (z.trans (by decide)))
  have e6 : ¬ x.toInt = 6 := fun z => h6 (Int32.toInt_inj.mp (z.trans (by decide)))
  have e7 : ¬ x.toInt = 7 := fun z => h7 (Int32.toInt_inj.mp (z.trans (by decide)))
  have e8 : ¬ x.toInt = 8 := fun z => h8 (Int32.toInt_inj.mp (z.trans (by decide)))
  have e9 : ¬ x.toInt = 9 := fun z => h9 (Int32.toInt_inj.mp (z.trans (by decide)))
  omega
theorem jtab_1_10 {x : Int32} (h1 : ¬ x = (nI 1)) (h2 : ¬ x = (nI 2)) (h3 : ¬ x = (nI 3)) (h4 : ¬ x = (nI 4)) (h5 : ¬ x = (nI 5)) (h6 : ¬ x = (nI 6)) (h7 : ¬ x = (nI 7)) (h8 : ¬ x = (nI 8)) (h9 : ¬ x = (nI 9)) (h10 : ¬ x = (nI 10)) : x.toInt < 1 ∨ 10 < x.toInt := by
  have e1 : ¬ x.toInt = 1 := fun z => h1 (Int32.toInt_inj.mp (z.trans (by decide)))
  have e2 : ¬ x.toInt = 2 := fun z => h2 (Int32.toInt_inj.mp (z.trans (by decide)))
  have e3 : ¬ x.toInt = 3 := fun z => h3 (Int32.toInt_inj.mp (z.trans (by decide)))
  have e4 : ¬ x.toInt = 4 := fun z => h4 (Int32.toInt_inj.mp (z.trans (by decide)))
  have e5 : ¬ x.toInt = 5 := fun z => h5 (Int32.toInt_inj.mp (z.trans (by decide)))
  have e6 : ¬ x.toInt = 6 := fun z => h6 (Int32.toInt_inj.mp (z.trans (by decide)))
  have e7 : ¬ x.toInt = 7 := fun z => h7 (Int32.toInt_inj.mp (z.trans (by decide)))
  have e8 : ¬ x.toInt = 8 := fun z => h8 (Int32.toInt_inj.mp (z.trans (by decide)))
  have e9 : ¬ x.toInt = 9 := fun z => h9 (Int32.toInt_inj.mp (z.trans (by decide)))
  have e10 : ¬ x.toInt = 10 := fun z => h10 (Int32.toInt_inj.mp (z.trans (by decide)))
  omega
