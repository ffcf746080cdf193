set_option maxRecDepth 100000
theorem dL_law_1453 : decode cL_law 1453 = .ok (.goto 258, 3) := by decide +kernel
theorem dL_law_1456 : decode cL_law 1456 = .ok (.aload_n 1, 1) := by decide +kernel
theorem dL_law_1457 : decode cL_law 1457 = .ok (.aload_n 0, 1) := by decide +kernel
theorem dL_law_1458 : decode cL_law 1458 = .ok (.iload 4, 2) := by decide +kernel
theorem dL_law_1460 : decode cL_law 1460 = .ok (.iconst 1, 1) := by decide +kernel
theorem dL_law_1461 : decode cL_law 1461 = .ok (.iadd, 1) := by decide +kernel
theorem dL_law_1462 : decode cL_law 1462 = .ok (.iaload, 1) := by decide +kernel
theorem dL_law_1463 : decode cL_law 1463 = .ok (.aload_n 3, 1) := by decide +kernel
theorem dL_law_1464 : decode cL_law 1464 = .ok (.invokestatic 161, 3) := by decide +kernel
theorem dL_law_1467 : decode cL_law 1467 = .ok (.istore 5, 2) := by decide +kernel
theorem dL_law_1469 : decode cL_law 1469 = .ok (.aload_n 2, 1) := by decide +kernel
theorem dL_law_1470 : decode cL_law 1470 = .ok (.aload_n 0, 1) := by decide +kernel
theorem dL_law_1471 : decode cL_law 1471 = .ok (.iload 4, 2) := by decide +kernel
theorem dL_law_1473 : decode cL_law 1473 = .ok (.iconst 1, 1) := by decide +kernel
theorem dL_law_1474 : decode cL_law 1474 = .ok (.iadd, 1) := by decide +kernel
theorem dL_law_1475 : decode cL_law 1475 = .ok (.iaload, 1) := by decide +kernel
theorem dL_law_1476 : decode cL_law 1476 = .ok (.invokevirtual 163, 3) := by decide +kernel
theorem dL_law_1479 : decode cL_law 1479 = .ok (.istore 6, 2) := by decide +kernel
theorem dL_law_1481 : decode cL_law 1481 = .ok (.aload_n 2, 1) := by decide +kernel
theorem dL_law_1482 : decode cL_law 1482 = .ok (.invokevirtual 97, 3) := by decide +kernel
theorem dL_law_1485 : decode cL_law 1485 = .ok (.iload 5, 2) := by decide +kernel
theorem dL_law_1487 : decode cL_law 1487 = .ok (.if_icmp .eq 5, 3) := by decide +kernel
theorem dL_law_1490 : decode cL_law 1490 = .ok (.iconst 0, 1) := by decide +kernel
theorem dL_law_1491 : decode cL_law 1491 = .ok (.ireturn, 1) := by decide +kernel
theorem dL_law_1492 : decode cL_law 1492 = .ok (.iload 5, 2) := by decide +kernel
theorem dL_law_1494 : decode cL_law 1494 = .ok (.ifCond .ne 15, 3) := by decide +kernel
theorem dL_law_1497 : decode cL_law 1497 = .ok (.aload_n 3, 1) := by decide +kernel
theorem dL_law_1498 : decode cL_law 1498 = .ok (.iconst 0, 1) := by decide +kernel
theorem dL_law_1499 : decode cL_law 1499 = .ok (.laload, 1) := by decide +kernel
theorem dL_law_1500 : decode cL_law 1500 = .ok (.iload 6, 2) := by decide +kernel
theorem dL_law_1502 : decode cL_law 1502 = .ok (.i2l, 1) := by decide +kernel
theorem dL_law_1503 : decode cL_law 1503 = .ok (.lcmp, 1) := by decide +kernel
theorem dL_law_1504 : decode cL_law 1504 = .ok (.ifCond .eq 5, 3) := by decide +kernel
theorem dL_law_1507 : decode cL_law 1507 = .ok (.iconst 0, 1) := by decide +kernel
theorem dL_law_1508 : decode cL_law 1508 = .ok (.ireturn, 1) := by decide +kernel
theorem dL_law_1509 : decode cL_law 1509 = .ok (.goto 202, 3) := by decide +kernel
theorem dL_law_1512 : decode cL_law 1512 = .ok (.aload_n 1, 1) := by decide +kernel
theorem dL_law_1513 : decode cL_law 1513 = .ok (.aload_n 0, 1) := by decide +kernel
theorem dL_law_1514 : decode cL_law 1514 = .ok (.iload 4, 2) := by decide +kernel
theorem dL_law_1516 : decode cL_law 1516 = .ok (.iconst 1, 1) := by decide +kernel
theorem dL_law_1517 : decode cL_law 1517 = .ok (.iadd, 1) := by decide +kernel
theorem dL_law_1518 : decode cL_law 1518 = .ok (.iaload, 1) := by decide +kernel
theorem dL_law_1519 : decode cL_law 1519 = .ok (.aload_n 0, 1) := by decide +kernel
theorem dL_law_1520 : decode cL_law 1520 = .ok (.iload 4, 2) := by decide +kernel
theorem dL_law_1522 : decode cL_law 1522 = .ok (.iconst 2, 1) := by decide +kernel
theorem dL_law_1523 : decode cL_law 1523 = .ok (.iadd, 1) := by decide +kernel
theorem dL_law_1524 : decode cL_law 1524 = .ok (.iaload, 1) := by decide +kernel
theorem dL_law_1525 : decode cL_law 1525 = .ok (.aload_n 3, 1) := by decide +kernel
theorem dL_law_1526 : decode cL_law 1526 = .ok (.invokestatic 164, 3) := by decide +kernel
theorem dL_law_1529 : decode cL_law 1529 = .ok (.istore 5, 2) := by decide +kernel
theorem dL_law_1531 : decode cL_law 1531 = .ok (.aload_n 2, 1) := by decide +kernel
theorem dL_law_1532 : decode cL_law 1532 = .ok (.aload_n 0, 1) := by decide +kernel
theorem dL_law_1533 : decode cL_law 1533 = .ok (.iload 4, 2) := by decide +kernel
theorem dL_law_1535 : decode cL_law 1535 = .ok (.iconst 1, 1) := by decide +kernel
theorem dL_law_1536 : decode cL_law 1536 = .ok (.iadd, 1) := by decide +kernel
theorem dL_law_1537 : decode cL_law 1537 = .ok (.iaload, 1) := by decide +kernel
theorem dL_law_1538 : decode cL_law 1538 = .ok (.aload_n 0, 1) := by decide +kernel
theorem dL_law_1539 : decode cL_law 1539 = .ok (.iload 4, 2) := by decide +kernel
theorem dL_law_1541 : decode cL_law 1541 = .ok (.iconst 2, 1) := by decide +kernel
theorem dL_law_1542 : decode cL_law 1542 = .ok (.iadd, 1) := by decide +kernel
theorem dL_law_1543 : decode cL_law 1543 = .ok (.iaload, 1) := by decide +kernel
theorem dL_law_1544 : decode cL_law 1544 = .ok (.invokevirtual 166, 3) := by decide +kernel
theorem dL_law_1547 : decode cL_law 1547 = .ok (.istore 6, 2) := by decide +kernel
theorem dL_law_1549 : decode cL_law 1549 = .ok (.aload_n 2, 1) := by decide +kernel
theorem dL_law_1550 : decode cL_law 1550 = .ok (.invokevirtual 97, 3) := by decide +kernel
theorem dL_law_1553 : decode cL_law 1553 = .ok (.iload 5, 2) := by decide +kernel
theorem dL_law_1555 : decode cL_law 1555 = .ok (.if_icmp .eq 5, 3) := by decide +kernel
theorem dL_law_1558 : decode cL_law 1558 = .ok (.iconst 0, 1) := by decide +kernel
theorem dL_law_1559 : decode cL_law 1559 = .ok (.ireturn, 1) := by decide +kernel
theorem dL_law_1560 : decode cL_law 1560 = .ok (.iload 5, 2) := by decide +kernel
theorem dL_law_1562 : decode cL_law 1562 = .ok (.ifCond .ne 22, 3) := by decide +kernel
theorem dL_law_1565 : decode cL_law 1565 = .ok (.aload_n 3, 1) := by decide +kernel
theorem dL_law_1566 : decode cL_law 1566 = .ok (.iconst 0, 1) := by decide +kernel
theorem dL_law_1567 : decode cL_law 1567 = .ok (.laload, 1) := by decide +kernel
theorem dL_law_1568 : decode cL_law 1568 = .ok (.iload 6, 2) := by decide +kernel
theorem dL_law_1570 : decode cL_law 1570 = .ok (.ifCond .eq 7, 3) := by decide +kernel
theorem dL_law_1573 : decode cL_law 1573 = .ok (.lconst 1, 1) := by decide +kernel
theorem dL_law_1574 : decode cL_law 1574 = .ok (.goto 4, 3) := by decide +kernel
theorem dL_law_1577 : decode cL_law 1577 = .ok (.lconst 0, 1) := by decide +kernel
theorem dL_law_1578 : decode cL_law 1578 = .ok (.lcmp, 1) := by decide +kernel
theorem dL_law_1579 : decode cL_law 1579 = .ok (.ifCond .eq 5, 3) := by decide +kernel
theorem dL_law_1582 : decode cL_law 1582 = .ok (.iconst 0, 1) := by decide +kernel
theorem dL_law_1583 : decode cL_law 1583 = .ok (.ireturn, 1) := by decide +kernel
theorem dL_law_1584 : decode cL_law 1584 = .ok (.goto 127, 3) := by decide +kernel
theorem dL_law_1587 : decode cL_law 1587 = .ok (.aload_n 1, 1) := by decide +kernel
theorem dL_law_1588 : decode cL_law 1588 = .ok (.aload_n 0, 1) := by decide +kernel
theorem dL_law_1589 : decode cL_law 1589 = .ok (.iload 4, 2) := by decide +kernel
theorem dL_law_1591 : decode cL_law 1591 = .ok (.iconst 1, 1) := by decide +kernel
theorem dL_law_1592 : decode cL_law 1592 = .ok (.iadd, 1) := by decide +kernel
theorem dL_law_1593 : decode cL_law 1593 = .ok (.iaload, 1) := by decide +kernel
theorem dL_law_1594 : decode cL_law 1594 = .ok (.aload_n 0, 1) := by decide +kernel
theorem dL_law_1595 : decode cL_law 1595 = .ok (.iload 4, 2) := by decide +kernel
theorem dL_law_1597 : decode cL_law 1597 = .ok (.iconst 2, 1) := by decide +kernel
theorem dL_law_1598 : decode cL_law 1598 = .ok (.iadd, 1) := by decide +kernel
theorem dL_law_1599 : decode cL_law 1599 = .ok (.iaload, 1) := by decide +kernel
theorem dL_law_1600 : decode cL_law 1600 = .ok (.aload_n 3, 1) := by decide +kernel
theorem dL_law_1601 : decode cL_law 1601 = .ok (.invokestatic 167, 3) := by decide +kernel
theorem dL_law_1604 : decode cL_law 1604 = .ok (.istore 5, 2) := by decide +kernel
theorem dL_law_1606 : decode cL_law 1606 = .ok (.aload_n 2, 1) := by decide +kernel
theorem dL_law_1607 : decode cL_law 1607 = .ok (.aload_n 0, 1) := by decide +kernel
theorem dL_law_1608 : decode cL_law 1608 = .ok (.iload 4, 2) := by decide +kernel
theorem dL_law_1610 : decode cL_law 1610 = .ok (.iconst 1, 1) := by decide +kernel
theorem dL_law_1611 : decode cL_law 1611 = .ok (.iadd, 1) := by decide +kernel
theorem dL_law_1612 : decode cL_law 1612 = .ok (.iaload, 1) := by decide +kernel
theorem dL_law_1613 : decode cL_law 1613 = .ok (.aload_n 0, 1) := by decide +kernel
theorem dL_law_1614 : decode cL_law 1614 = .ok (.iload 4, 2) := by decide +kernel
theorem dL_law_1616 : decode cL_law 1616 = .ok (.iconst 2, 1) := by decide +kernel
theorem dL_law_1617 : decode cL_law 1617 = .ok (.iadd, 1) := by decide +kernel
theorem dL_law_1618 : decode cL_law 1618 = .ok (.iaload, 1) := by decide +kernel
theorem dL_law_1619 : decode cL_law 1619 = .ok (.invokevirtual 169, 3) := by decide +kernel
theorem dL_law_1622 : decode cL_law 1622 = .ok (.istore 6, 2) := by decide +kernel
theorem dL_law_1624 : decode cL_law 1624 = .ok (.aload_n 2, 1) := by decide +kernel
theorem dL_law_1625 : decode cL_law 1625 = .ok (.invokevirtual 97, 3) := by decide +kernel
theorem dL_law_1628 : decode cL_law 1628 = .ok (.iload 5, 2) := by decide +kernel
theorem dL_law_1630 : decode cL_law 1630 = .ok (.if_icmp .eq 5, 3) := by decide +kernel
theorem dL_law_1633 : decode cL_law 1633 = .ok (.iconst 0, 1) := by decide +kernel
theorem dL_law_1634 : decode cL_law 1634 = .ok (.ireturn, 1) := by decide +kernel
theorem dL_law_1635 : decode cL_law 1635 = .ok (.iload 5, 2) := by decide +kernel
theorem dL_law_1637 : decode cL_law 1637 = .ok (.ifCond .ne 15, 3) := by decide +kernel
theorem dL_law_1640 : decode cL_law 1640 = .ok (.aload_n 3, 1) := by decide +kernel
theorem dL_law_1641 : decode cL_law 1641 = .ok (.iconst 0, 1) := by decide +kernel
theorem dL_law_1642 : decode cL_law 1642 = .ok (.laload, 1) := by decide +kernel
theorem dL_law_1643 : decode cL_law 1643 = .ok (.iload 6, 2) := by decide +kernel
theorem dL_law_1645 : decode cL_law 1645 = .ok (.i2l, 1) := by decide +kernel
theorem dL_law_1646 : decode cL_law 1646 = .ok (.lcmp, 1) := by decide +kernel
theorem dL_law_1647 : decode cL_law 1647 = .ok (.ifCond .eq 5, 3) := by decide +kernel
theorem dL_law_1650 : decode cL_law 1650 = .ok (.iconst 0, 1) := by decide +kernel
theorem dL_law_1651 : decode cL_law 1651 = .ok (.ireturn, 1) := by decide +kernel
theorem dL_law_1652 : decode cL_law 1652 = .ok (.goto 59, 3) := by decide +kernel
theorem dL_law_1655 : decode cL_law 1655 = .ok (.aload_n 1, 1) := by decide +kernel
theorem dL_law_1656 : decode cL_law 1656 = .ok (.aload_n 0, 1) := by decide +kernel
theorem dL_law_1657 : decode cL_law 1657 = .ok (.iload 4, 2) := by decide +kernel
theorem dL_law_1659 : decode cL_law 1659 = .ok (.iconst 1, 1) := by decide +kernel
theorem dL_law_1660 : decode cL_law 1660 = .ok (.iadd, 1) := by decide +kernel
theorem dL_law_1661 : decode cL_law 1661 = .ok (.iaload, 1) := by decide +kernel
theorem dL_law_1662 : decode cL_law 1662 = .ok (.aload_n 3, 1) := by decide +kernel
theorem dL_law_1663 : decode cL_law 1663 = .ok (.invokestatic 170, 3) := by decide +kernel
theorem dL_law_1666 : decode cL_law 1666 = .ok (.istore 5, 2) := by decide +kernel
theorem dL_law_1668 : decode cL_law 1668 = .ok (.aload_n 2, 1) := by decide +kernel
theorem dL_law_1669 : decode cL_law 1669 = .ok (.aload_n 0, 1) := by decide +kernel
theorem dL_law_1670 : decode cL_law 1670 = .ok (.iload 4, 2) := by decide +kernel
theorem dL_law_1672 : decode cL_law 1672 = .ok (.iconst 1, 1) := by decide +kernel
theorem dL_law_1673 : decode cL_law 1673 = .ok (.iadd, 1) := by decide +kernel
theorem dL_law_1674 : decode cL_law 1674 = .ok (.iaload, 1) := by decide +kernel
theorem dL_law_1675 : decode cL_law 1675 = .ok (.invokevirtual 172, 3) := by decide +kernel
theorem dL_law_1678 : decode cL_law 1678 = .ok (.istore 6, 2) := by decide +kernel
theorem dL_law_1680 : decode cL_law 1680 = .ok (.aload_n 2, 1) := by decide +kernel
theorem dL_law_1681 : decode cL_law 1681 = .ok (.invokevirtual 97, 3) := by decide +kernel
theorem dL_law_1684 : decode cL_law 1684 = .ok (.iload 5, 2) := by decide +kernel
theorem dL_law_1686 : decode cL_law 1686 = .ok (.if_icmp .eq 5, 3) := by decide +kernel
theorem dL_law_1689 : decode cL_law 1689 = .ok (.iconst 0, 1) := by decide +kernel
theorem dL_law_1690 : decode cL_law 1690 = .ok (.ireturn, 1) := by decide +kernel
theorem dL_law_1691 : decode cL_law 1691 = .ok (.iload 5, 2) := by decide +kernel
theorem dL_law_1693 : decode cL_law 1693 = .ok (.ifCond .ne 15, 3) := by decide +kernel
theorem dL_law_1696 : decode cL_law 1696 = .ok (.aload_n 3, 1) := by decide +kernel
theorem dL_law_1697 : decode cL_law 1697 = .ok (.iconst 0, 1) := by decide +kernel
theorem dL_law_1698 : decode cL_law 1698 = .ok (.laload, 1) := by decide +kernel
theorem dL_law_1699 : decode cL_law 1699 = .ok (.iload 6, 2) := by decide +kernel
theorem dL_law_1701 : decode cL_law 1701 = .ok (.i2l, 1) := by decide +kernel
theorem dL_law_1702 : decode cL_law 1702 = .ok (.lcmp, 1) := by decide +kernel
theorem dL_law_1703 : decode cL_law 1703 = .ok (.ifCond .eq 5, 3) := by decide +kernel
theorem dL_law_1706 : decode cL_law 1706 = .ok (.iconst 0, 1) := by decide +kernel
theorem dL_law_1707 : decode cL_law 1707 = .ok (.ireturn, 1) := by decide +kernel
theorem dL_law_1708 : decode cL_law 1708 = .ok (.goto 3, 3) := by decide +kernel
theorem dL_law_1711 : decode cL_law 1711 = .ok (.iinc 4 5, 3) := by decide +kernel
theorem dL_law_1714 : decode cL_law 1714 = .ok (.goto (-1691), 3) := by decide +kernel
theorem dL_law_1717 : decode cL_law 1717 = .ok (.iconst 1, 1) := by decide +kernel
theorem dL_law_1718 : decode cL_law 1718 = .ok (.ireturn, 1) := by decide +kernel
